section
/-- both sides keep the same three fields: the relation is equality of the two tuples -/
def i_Rel (_ : Nat) (u : SX) (v : SY) : Prop := u = v
theorem i_up {k : Nat} {u : SX} {v : SY} (h : i_Rel k u v) : i_Rel (k + 4) u v := h
theorem i_vc0 : wpX_init (fun u => wpY_init (fun v => i_Rel 0 u v)) := rfl
theorem mt_b4 : (4 : Int32).toInt8.toInt32 = 4 := by decide
theorem mt_b8 : (8 : Int32).toInt8.toInt32 = 8 := by decide
theorem mt_b12 : (12 : Int32).toInt8.toInt32 = 12 := by decide
theorem mt_f4 : fits .byte (.int 4) = true := by decide
theorem mt_f8 : fits .byte (.int 8) = true := by decide
theorem mt_f12 : fits .byte (.int 12) = true := by decide
/-- the reference's private store, for a format that is a byte -/
theorem mt_store {post : Int64 → SY → Prop} {p : Int64} {e f : Int32} {p0 : Int64} {p1 p2 : Int32} (hb : p2.toInt8.toInt32 = p2) (hf : fits .byte (.int p2) = true) (hp : post p0 (p0, p1, p2)) : wpY_store post (p, e, f) p0 p1 p2 := by
  unfold wpY_store
  dsimp only
  refine ⟨lw_i8_n p2, ?_, ?_⟩
  · rw [hb]; exact hf
  · rw [hb]; exact hp
/-- the join behind the four byte form: the component's answer and state are the reference's, whatever is asked of them -/
theorem mt_join {post : Int32 → SX → Prop} {x1 : Int64} {x3 : Int32} {p : Int64} {e f : Int32}
    (h : ∀ (r : Int32) (w : SX), (∀ q : Int32 → SY → Prop, q r w → wY_set_35 q x1 x3 p e f) → post r w) : wX_set_42 post x1 x3 p e f :=
  br_c (fun hs => nm_e (h _ _ (fun _ hq => br_t hs (mt_store mt_b8 mt_f8 hq))))
    (fun hs => h _ _ (fun _ hq => br_f hs (mt_store mt_b12 mt_f12 hq)))
theorem i_vc_set {k : Nat} {u : SX} {v : SY} (I : i_Rel k u v) (hk : k + 4 ≤ 2048) (a0 : Int64) (v3 : Int32) : wpX_set (fun r u' => wpY_set (fun r' v' => r' = r ∧ i_Rel (k + 4) u' v') v a0 v3) u a0 v3 := by
  cases I
  obtain ⟨p, e, f⟩ := u
  exact br_c (fun h0 => br_t h0 ⟨rfl, rfl⟩) (fun h0 => br_c
    (fun h9 => br_c
      (fun hz => br_c
        (fun hs => br_f h0 (br_t h9 (br_t hz (br_t hs (mt_store mt_b4 mt_f4 ⟨rfl, rfl⟩)))))
        (fun hs => mt_join (fun r w hw => br_f h0 (br_t h9 (br_t hz (br_f hs (hw _ ⟨rfl, rfl⟩)))))))
      (fun hz => mt_join (fun r w hw => br_f h0 (br_t h9 (br_f hz (hw _ ⟨rfl, rfl⟩))))))
    (fun h9 => br_f h0 (br_f h9 ⟨rfl, rfl⟩)))
theorem mt_n (a b : Int32) {x : Int32} (n : ¬ a = b) (h : x = a) : ¬ x = b := fun z => n (h.symm.trans z)
theorem i_vc_seconds {k : Nat} {u : SX} {v : SY} (I : i_Rel k u v) (hk : k + 4 ≤ 2048) : wpX_seconds (fun r => wpY_seconds (fun r' => r' = r ∧ i_Rel (k + 4) u v) v) u := by
  cases I
  obtain ⟨p, e, f⟩ := u
  exact br_c (fun h4 => br_t h4 ⟨rfl, rfl⟩) (fun h4 => br_c
    (fun h12 => br_f h4 (br_f (mt_n 12 8 (by decide) h12) (br_t h12 ⟨rfl, rfl⟩)))
    (fun h12 => br_c
      (fun h8 => br_f h4 (br_t h8 ⟨rfl, rfl⟩))
      (fun h8 => br_f h4 (br_f h8 (br_f h12 ⟨rfl, rfl⟩)))))
theorem i_vc_nanos {k : Nat} {u : SX} {v : SY} (I : i_Rel k u v) (hk : k + 4 ≤ 2048) : wpX_nanos (fun r => wpY_nanos (fun r' => r' = r ∧ i_Rel (k + 4) u v) v) u := by
  cases I
  obtain ⟨p, e, f⟩ := u
  exact br_c (fun h8 => br_f (mt_n 8 4 (by decide) h8) (br_t h8 ⟨rfl, rfl⟩)) (fun h8 => br_c
    (fun h12 => br_f (mt_n 12 4 (by decide) h12) (br_f h8 (br_t h12 ⟨rfl, rfl⟩)))
    (fun h12 => br_c (fun h4 => ⟨rfl, rfl⟩) (fun h4 => br_f h8 (br_f h12 ⟨rfl, rfl⟩))))
theorem i_vc_payload {k : Nat} {u : SX} {v : SY} (I : i_Rel k u v) (hk : k + 4 ≤ 2048) : wpX_payload (fun r => wpY_payload (fun r' => r' = r ∧ i_Rel (k + 4) u v) v) u := by
  cases I
  obtain ⟨p, e, f⟩ := u
  exact ⟨rfl, rfl⟩
end
