section
/-- both keep the same three fields: the records left, the records still needed, the generator's word -/
def i_Rel (_ : Nat) (u : SX) (v : SY) : Prop := u = v
theorem i_up {k : Nat} {u : SX} {v : SY} (h : i_Rel k u v) : i_Rel (k + 3) u v := h
theorem i_vc0 (k0 : Int32) : wpX_init (fun u => wpY_init (fun v => i_Rel 1 u v) k0) k0 := rfl
/-! begin, join by join from the last one: one answer and one end state, so that every post that holds there gives both walks -/
theorem sq_21 (x1 x2 l n : Int32) (s : Int64) : ∃ (r : Int32) (w : Int32 × Int32 × Int64), (∀ post : Int32 → SX → Prop, post r w → wX_begin_21 post x1 x2 l n s) ∧ (∀ post : Int32 → SY → Prop, post r w → wY_begin_21 post x1 x2 l n s) := by
  by_cases h : x2 ≤ x1
  · exact ⟨x2, (x1, x2, s), fun _ hp => br_t h hp, fun _ hp => br_t h hp⟩
  · exact ⟨x1, (x1, x1, s), fun _ hp => br_f h hp, fun _ hp => br_f h hp⟩
theorem sq_15 (x1 x2 l n : Int32) (s : Int64) : ∃ (r : Int32) (w : Int32 × Int32 × Int64), (∀ post : Int32 → SX → Prop, post r w → wX_begin_15 post x1 x2 l n s) ∧ (∀ post : Int32 → SY → Prop, post r w → wY_begin_15 post x1 x2 l n s) := by
  by_cases h : 0 ≤ x2
  · obtain ⟨r, w, hX, hY⟩ := sq_21 x1 x2 l n s
    exact ⟨r, w, fun p hp => br_t h (hX p hp), fun p hp => br_t h (hY p hp)⟩
  · obtain ⟨r, w, hX, hY⟩ := sq_21 x1 0 l n s
    exact ⟨r, w, fun p hp => br_f h (hX p hp), fun p hp => br_f h (hY p hp)⟩
theorem sq_6 (x1 x2 l n : Int32) (s : Int64) : ∃ (r : Int32) (w : Int32 × Int32 × Int64), (∀ post : Int32 → SX → Prop, post r w → wX_begin_6 post x1 x2 l n s) ∧ (∀ post : Int32 → SY → Prop, post r w → wY_begin_6 post x1 x2 l n s) := by
  by_cases h : x1 ≤ 6
  · obtain ⟨r, w, hX, hY⟩ := sq_15 x1 x2 l n s
    exact ⟨r, w, fun p hp => br_t h (hX p hp), fun p hp => br_t h (hY p hp)⟩
  · obtain ⟨r, w, hX, hY⟩ := sq_15 6 x2 l n s
    exact ⟨r, w, fun p hp => br_f h (hX p hp), fun p hp => br_f h (hY p hp)⟩
theorem i_vc_begin {k : Nat} {u : SX} {v : SY} (I : i_Rel k u v) (hk : k + 3 ≤ 1537) (v1 : Int32) (v2 : Int32) : wpX_begin (fun r u' => wpY_begin (fun r' v' => r' = r ∧ i_Rel (k + 3) u' v') v v1 v2) u v1 v2 := by
  cases I
  obtain ⟨l, n, s⟩ := u
  by_cases h : 0 ≤ v1
  · obtain ⟨r, w, hX, hY⟩ := sq_6 v1 v2 l n s
    exact br_t h (hX _ (br_t h (hY _ ⟨rfl, rfl⟩)))
  · obtain ⟨r, w, hX, hY⟩ := sq_6 0 v2 l n s
    exact br_f h (hX _ (br_f h (hY _ ⟨rfl, rfl⟩)))
theorem i_vc_visit {k : Nat} {u : SX} {v : SY} (I : i_Rel k u v) (hk : k + 3 ≤ 1537) : wpX_visit (fun r u' => wpY_visit (fun r' v' => r' = r ∧ i_Rel (k + 3) u' v') v) u := by
  cases I
  obtain ⟨l, n, s⟩ := u
  by_cases h : l = 0
  · exact br_t h (br_t h ⟨rfl, rfl⟩)
  · refine br_f h fun s1 e1 d1 f1 => ⟨h, ?_⟩
    by_cases c : n ≤ d1 - d1 / l * l
    · refine br_t c fun a ea => br_t rfl ⟨rfl, br_f h fun s2 e2 d2 f2 b eb => ⟨h, ?_⟩⟩
      have es : s2 = s1 := e2.trans e1.symm
      have ed : d2 = d1 := by rw [f1, f2, e1]
      have ef : b = a := eb.trans ea.symm
      cases es
      cases ed
      cases ef
      exact br_t c ⟨rfl, rfl⟩
    · refine br_f c fun a ea => br_f (by decide) fun m em => ⟨rfl, br_f h fun s2 e2 d2 f2 b eb => ⟨h, ?_⟩⟩
      have es : s2 = s1 := e2.trans e1.symm
      have ed : d2 = d1 := by rw [f1, f2, e1]
      have ef : b = a := eb.trans ea.symm
      cases es
      cases ed
      cases ef
      refine br_f c fun q eq => ?_
      have eg : q = m := eq.trans em.symm
      cases eg
      exact ⟨rfl, rfl⟩
theorem i_vc_owed {k : Nat} {u : SX} {v : SY} (I : i_Rel k u v) (hk : k + 3 ≤ 1537) : wpX_owed (fun r => wpY_owed (fun r' => r' = r ∧ i_Rel (k + 3) u v) v) u := by
  cases I
  obtain ⟨l, n, s⟩ := u
  exact ⟨rfl, rfl⟩
theorem i_vc_left {k : Nat} {u : SX} {v : SY} (I : i_Rel k u v) (hk : k + 3 ≤ 1537) : wpX_left (fun r => wpY_left (fun r' => r' = r ∧ i_Rel (k + 3) u v) v) u := by
  cases I
  obtain ⟨l, n, s⟩ := u
  exact ⟨rfl, rfl⟩
end
