-- C
set_option maxRecDepth 100000
/-! how many orders are in a group -/
section IN
variable {l l1 : List Int}
theorem pBlock_len {os : List SOrd0} (h : pBlock l = .inr (l1, os)) : os.length ≤ l.length + 1 := by
  unfold pBlock at h
  split at h
  · cases hp : pInners l.length l.tail with
    | inl f => rw [hp] at h; cases h
    | inr q =>
      obtain ⟨l2, os'⟩ := q
      rw [hp] at h
      dsimp only at h
      split at h
      · cases h
        have h1 := pInners_len _ _ _ _ hp
        have h2 := tl_len l
        omega
      · cases h
  · cases h
theorem pOrder_len {o : SOrd} (h : pOrder l = .inr (l1, o)) : o.2.length ≤ l.length + 1 := by
  unfold pOrder at h
  cases hw : pWhere l with
  | inl f => rw [hw] at h; cases h
  | inr q =>
    obtain ⟨l2, w⟩ := q
    have hs := pWhere_shr _ _ hw
    have t1 := tl_len l2
    have t2 := tl_len l2.tail
    rw [hw] at h
    dsimp only at h
    split at h
    · cases hb : pBlock l2 with
      | inl f => rw [hb] at h; cases h
      | inr q =>
        obtain ⟨l3, os⟩ := q
        rw [hb] at h
        cases h
        have := pBlock_len hb
        show os.length ≤ _
        omega
    · split at h
      · split at h
        · cases hb : pPat 47 l2.tail.tail with
          | inl f => rw [hb] at h; cases h
          | inr q =>
            obtain ⟨l3, gq, pt⟩ := q
            have t3 := pPat_shr _ _ _ hb
            have t4 := tl_len l3
            rw [hb] at h
            dsimp only at h
            split at h
            · split at h
              · cases hc : pBlock l3.tail with
                | inl f => rw [hc] at h; cases h
                | inr q =>
                  obtain ⟨l4, os⟩ := q
                  rw [hc] at h
                  cases h
                  have := pBlock_len hc
                  show os.length ≤ _
                  omega
              · cases hc : pInner l3.tail with
                | inl f => rw [hc] at h; cases h
                | inr q =>
                  obtain ⟨l4, os⟩ := q
                  rw [hc] at h
                  cases h
                  show 1 ≤ _
                  omega
            · cases h
        · cases h
      · cases ha : pAct false w l2 with
        | inl f => rw [ha] at h; cases h
        | inr q =>
          obtain ⟨l3, o9⟩ := q
          rw [ha] at h
          cases h
          exact Nat.zero_le _
theorem pOrders_len : ∀ (os : List SOrd) (k : Nat) (l l1 : List Int), pOrders k l = .inr (l1, os) → ∀ o ∈ os, o.2.length ≤ l.length + 1 := by
  intro os
  induction os with
  | nil => intro k l l1 _ o ho; cases ho
  | cons o os ih =>
    intro k l l1 h o' ho'
    obtain ⟨o2, l2, h1, h2⟩ := pOrders_out h
    rcases h2 with ⟨_, z, e⟩ | ⟨h59, k', os', z, hp⟩
    · cases z
      rw [List.mem_singleton.mp ho']
      exact pOrder_len h1
    · cases z
      have hs := pOrder_shr _ _ h1
      have ht := tail_len (hd_ne h59 (by decide))
      rcases List.mem_cons.mp ho' with w | w
      · rw [w]; exact pOrder_len h1
      · have := ih k' _ l1 hp o' w
        omega
theorem sOrders_in {s : List Int} {os : List SOrd} (h : sOrders s = .inr os) (hl : s.length ≤ 24) : ∀ o ∈ os, o.2.length ≤ 40 := by
  unfold sOrders at h
  cases hp : pOrders s.length s with
  | inl f => rw [hp] at h; cases h
  | inr q =>
    obtain ⟨l, os'⟩ := q
    rw [hp] at h
    dsimp only at h
    split at h
    · cases h
      intro o ho
      have := pOrders_len _ _ _ _ hp o ho
      omega
    · cases h
end IN
