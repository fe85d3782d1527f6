set_option maxRecDepth 100000
/-! PURE FACTS of orders that were read from at most 24 signs: what the walk over objects wants of them -/
section PU
variable {l l1 : List Int} {st st1 : Nat}
theorem pPlain_R {p : SPart} (h : pPlain st l = .inr (l1, st1, p)) : l1.length < l.length ∧ p.2.1 = 0 := by
  unfold pPlain at h
  split at h
  · cases h
  rename_i hl
  have ht := tail_len hl
  split at h
  · split at h
    · cases h; exact ⟨by omega, rfl⟩
    · cases h
  split at h
  · cases h; exact ⟨by omega, rfl⟩
  split at h
  · dsimp only at h
    have hr : (if decide (hd l.tail = 94) = true then l.tail.tail else l.tail).length ≤ l.tail.length := by
      split
      · exact tl_len _
      · exact Nat.le_refl _
    by_cases h1 : (if decide (hd l.tail = 94) = true then l.tail.tail else l.tail).takeWhile isChr = []
    · rw [if_pos h1] at h; cases h
    · rw [if_neg h1] at h
      by_cases h2 : hd ((if decide (hd l.tail = 94) = true then l.tail.tail else l.tail).dropWhile isChr) = 93
      · rw [if_pos h2] at h
        cases h
        have h3 := tl_len ((if decide (hd l.tail = 94) = true then l.tail.tail else l.tail).dropWhile isChr)
        have h4 := (List.dropWhile_sublist isChr (l := if decide (hd l.tail = 94) = true then l.tail.tail else l.tail)).length_le
        exact ⟨by omega, rfl⟩
      · rw [if_neg h2] at h; cases h
  split at h
  · cases h; exact ⟨by omega, rfl⟩
  · cases h
theorem pGrp_R : ∀ (k st : Nat) (acc : List SPart) (l l1 : List Int) (st1 : Nat) (ps : List SPart), (∀ p ∈ acc, p.2.1 = 0) → pGrp k st acc l = .inr (l1, st1, ps) → ps.length + l1.length + 1 ≤ acc.length + l.length ∧ ∀ p ∈ ps, p.2.1 = 0 := by
  intro k
  induction k with
  | zero =>
    intro st acc l l1 st1 ps ha h
    unfold pGrp at h
    split at h
    · rename_i h41
      have ht := tail_len (hd_ne h41 (by decide))
      cases h; exact ⟨by omega, ha⟩
    · cases h
  | succ k ih =>
    intro st acc l l1 st1 ps ha h
    unfold pGrp at h
    split at h
    · rename_i h41
      have ht := tail_len (hd_ne h41 (by decide))
      cases h; exact ⟨by omega, ha⟩
    · dsimp only at h
      cases hp : pPlain st l with
      | inl f => rw [hp] at h; cases h
      | inr v =>
        obtain ⟨l2, st2, p2⟩ := v
        rw [hp] at h
        have h2 := pPlain_R hp
        have h3 := ih st2 (acc ++ [p2]) l2 l1 st1 ps (fun p hq => by
          rcases List.mem_append.mp hq with z | z
          · exact ha p z
          · rw [List.mem_singleton.mp z]; exact h2.2) h
        rw [List.length_append] at h3
        have e1 : [p2].length = 1 := rfl
        exact ⟨by omega, h3.2⟩
def PpR (p : SPart) : Prop := p.1 < 100 ∧ p.2.1 < 100
theorem pItem_R {cl cl1 : Nat} {ps : List SPart} (hcl : cl ≤ 2) (h : pItem cl st l = .inr (l1, cl1, st1, ps)) : ps.length + l1.length ≤ l.length ∧ cl1 ≤ 2 ∧ ∀ p ∈ ps, PpR p := by
  unfold pItem at h
  split at h
  · rename_i h40
    have ht := tail_len (hd_ne h40 (by decide))
    split at h
    · cases hg : pGrp 12 st [] l.tail with
      | inl f => rw [hg] at h; cases h
      | inr v =>
        obtain ⟨l2, st2, qs⟩ := v
        rw [hg] at h
        cases h
        have hq := pGrp_R _ _ _ _ _ _ _ (fun p z => by cases z) hg
        have hk := pGrp_kd _ _ _ _ _ _ _ (fun p z => by cases z) hg
        have e0 : ([] : List SPart).length = 0 := rfl
        refine ⟨?_, by omega, fun p hp => ?_⟩
        · rw [List.length_append, List.length_cons]
          have e1 : [((5, cl + 1, [], false) : SPart)].length = 1 := rfl
          omega
        · rcases List.mem_append.mp hp with z | z
          · rcases List.mem_cons.mp z with z | z
            · rw [z]; exact ⟨show 4 < 100 by decide, by show cl + 1 < 100; omega⟩
            · exact ⟨by have := hk p z; omega, by rw [hq.2 p z]; decide⟩
          · rw [List.mem_singleton.mp z]; exact ⟨show 5 < 100 by decide, by show cl + 1 < 100; omega⟩
    · cases h
  · split at h
    · rename_i h92
      have ht := tail_len (hd_ne h92 (by decide))
      split at h
      · split at h
        · rename_i hr
          cases h
          have h2 : l.tail ≠ [] := fun z => by rw [z] at hr; exact absurd hr.1 (by decide)
          have ht2 := tail_len h2
          refine ⟨?_, hcl, fun p hp => ?_⟩
          · have e1 : [((6, (hd l.tail - 48).toNat, [], false) : SPart)].length = 1 := rfl
            omega
          · rw [List.mem_singleton.mp hp]; exact ⟨show 6 < 100 by decide, by show (hd l.tail - 48).toNat < 100; omega⟩
        · cases h
      · cases h
    · cases hpp : pPlain st l with
      | inl f => rw [hpp] at h; cases h
      | inr v =>
        obtain ⟨l2, st2, p2⟩ := v
        rw [hpp] at h
        cases h
        have h2 := pPlain_R hpp
        have h3 := pPlain_kd hpp
        refine ⟨?_, hcl, fun p hp => ?_⟩
        · have e1 : [p2].length = 1 := rfl
          omega
        · rw [List.mem_singleton.mp hp]; exact ⟨by omega, by rw [h2.2]; decide⟩
theorem pItems_R (c : Int) : ∀ (k cl st : Nat) (acc : List SPart) (l l1 : List Int) (cl1 : Nat) (ps : List SPart), cl ≤ 2 → (∀ p ∈ acc, PpR p) → pItems c k cl st acc l = .inr (l1, cl1, ps) → ps.length + l1.length ≤ acc.length + l.length ∧ ∀ p ∈ ps, PpR p := by
  intro k
  induction k with
  | zero =>
    intro cl st acc l l1 cl1 ps hcl ha hp
    unfold pItems at hp
    split at hp
    · cases hp; exact ⟨Nat.le_refl _, ha⟩
    · cases hp
  | succ k ih =>
    intro cl st acc l l1 cl1 ps hcl ha hp
    unfold pItems at hp
    split at hp
    · cases hp; exact ⟨Nat.le_refl _, ha⟩
    · dsimp only at hp
      cases hi : pItem cl st l with
      | inl f => rw [hi] at hp; cases hp
      | inr v =>
        obtain ⟨l2, cl2, st2, its⟩ := v
        rw [hi] at hp
        have h2 := pItem_R hcl hi
        have h3 := ih cl2 st2 _ l2 l1 cl1 ps h2.2.1 (fun p hq => (List.mem_append.mp hq).elim (ha p) (h2.2.2 p)) hp
        rw [List.length_append] at h3
        exact ⟨by omega, h3.2⟩
theorem pPat_K {c : Int} {g : Nat} {pt : SPat} (h : pPat c l = .inr (l1, g, pt)) (hl : l.length ≤ 150) : PatK pt := by
  have hok := pPat_ok h
  rw [pPat_E] at h
  cases hi : pItems c 12 0 0 [] (if decide (hd l = 94) = true then l.tail else l) with
  | inl f => rw [hi] at h; cases h
  | inr v =>
    obtain ⟨l2, cl, ps⟩ := v
    rw [hi] at h
    unfold pPatE at h
    dsimp only at h
    split at h
    · cases h
    · have h2 := pItems_R c 12 0 0 [] _ l2 cl ps (by decide) (fun p z => by cases z) hi
      cases h
      have h3 : (if decide (hd l = 94) = true then l.tail else l).length ≤ l.length := by
        split
        · exact tl_len _
        · exact Nat.le_refl _
      have e0 : ([] : List SPart).length = 0 := rfl
      exact ⟨hok.1, hok.2.2.1, by show ps.length ≤ 160; omega, fun p hp => h2.2 p hp⟩
theorem pMore_R2 : ∀ (n : Nat) (v : Int) (has : Bool) (l l1 : List Int) (v1 : Int) (has1 : Bool), pMore n v has l = .inr (l1, v1, has1) → v + 33 * (l1.length : Int) ≤ v1 + 33 * (l.length : Int) ∧ v1 + 33 * (l1.length : Int) ≤ v + 33 * (l.length : Int) ∧ l1.length ≤ l.length := by
  intro n
  induction n with
  | zero =>
    intro v has l l1 v1 has1 h
    unfold pMore at h
    split at h
    · cases h
    · cases h; omega
  | succ n ih =>
    intro v has l l1 v1 has1 h
    unfold pMore at h
    split at h
    · rename_i hs
      have ht : l.tail.length + 1 = l.length := tail_len (by
        rcases hs with z | z
        · exact hd_ne z (by decide)
        · exact hd_ne z (by decide))
      clear hs
      dsimp only at h
      cases hp : pNum l.tail with
      | inl f => rw [hp] at h; cases h
      | inr q =>
        obtain ⟨l2, x⟩ := q
        rw [hp] at h
        have h1 := ih _ _ _ _ _ _ h
        obtain ⟨g1, g2, g3⟩ := pNum_out hp
        have g2 := isDig_R g2
        have ht2 := tail_len g1
        have hx : 0 ≤ x ∧ x + 33 * (l2.length : Int) ≤ 33 * (l.length : Int) ∧ l2.length ≤ l.length := by
          rcases g3 with ⟨g4, g5, g6, g7⟩ | ⟨_, g6, g7⟩
          · have g4 := isDig_R g4
            have ht3 := tail_len g5
            rw [g6, g7]
            omega
          · rw [g6, g7]
            omega
        clear g3 g2
        split at h1 <;> omega
    · cases h; omega
theorem pAdr_K {a : SAdr} (h : pAdr l = .inr (l1, a)) (hl : l.length ≤ 24) : AdK a := by
  obtain ⟨la, h1, h2⟩ := pAdr_out h
  have hm := pMore_R2 _ _ _ _ _ _ _ h2
  have hs := pSpot_shr _ _ h1
  have hmr : -1000 < a.2.2.2.1 ∧ a.2.2.2.1 < 1000 := by omega
  obtain ⟨hl0, hc⟩ := pSpot_out h1
  rcases hc with ⟨_, e, hn⟩ | ⟨_, e, hc⟩
  · have hn := pNum_R9 hn
    exact ⟨Or.inl e, fun z => by omega, by omega, hmr, fun z => by omega⟩
  · have hnum : a.1 ≠ 39 → a.2.1 = 0 := by
      intro hne
      unfold pSpot at h1
      split at h1
      · cases hn : pNum l with
        | inl f => rw [hn] at h1; cases h1
        | inr q => obtain ⟨q1, q2⟩ := q; rw [hn] at h1; rename_i hd0; exact absurd hd0 (by simp_all)
      split at h1
      · rename_i z39; exact absurd (e.trans z39) hne
      split at h1
      · cases hn : pPat (hd l) l.tail with
        | inl f => rw [hn] at h1; cases h1
        | inr q =>
          obtain ⟨q1, q2, q3⟩ := q
          rw [hn] at h1
          dsimp only at h1
          split at h1
          · have := Sum.inr.inj h1
            have := congrArg (fun z => z.2.2.1) this
            exact this.symm
          · cases h1
      split at h1
      · have := Sum.inr.inj h1
        have := congrArg (fun z => z.2.2.1) this
        exact this.symm
      · cases h1
    have ht := tl_len l
    rcases hc with ⟨z, _⟩ | ⟨z, _⟩ | ⟨z, g1, g2, _⟩ | ⟨z, l2, g, hp, _⟩
    · have e0 := hnum (by omega)
      exact ⟨by omega, fun y => by omega, by omega, hmr, fun y => by omega⟩
    · have e0 := hnum (by omega)
      exact ⟨by omega, fun y => by omega, by omega, hmr, fun y => by omega⟩
    · have g1 : 97 ≤ hd l.tail ∧ hd l.tail ≤ 101 := of_decide_eq_true g1
      exact ⟨by omega, fun y => by omega, by omega, hmr, fun y => by omega⟩
    · have e0 := hnum (by rcases z with z | z <;> omega)
      exact ⟨by rcases z with z | z <;> omega, fun y => by omega, by omega, hmr, fun _ => pPat_K hp (by omega)⟩
theorem pWhere_K {w : Bool × Option SAdr × Option SAdr} (h : pWhere l = .inr (l1, w)) (hl : l.length ≤ 24) : (∀ a, w.2.1 = some a → AdK a) ∧ ∀ a, w.2.2 = some a → AdK a := by
  unfold pWhere at h
  split at h
  · cases h; exact ⟨fun a z => (by cases z), fun a z => (by cases z)⟩
  · split at h
    · cases hp : pAdr l with
      | inl f => rw [hp] at h; cases h
      | inr q =>
        obtain ⟨l2, a⟩ := q
        rw [hp] at h
        have ha := pAdr_K hp hl
        have hs := pAdr_shr _ _ hp
        dsimp only at h
        split at h
        · cases hp2 : pAdr l2.tail with
          | inl f => rw [hp2] at h; cases h
          | inr q =>
            obtain ⟨l3, b⟩ := q
            rw [hp2] at h
            have ht := tl_len l2
            have hb := pAdr_K hp2 (by omega)
            cases h
            exact ⟨fun a' z => by cases z; exact ha, fun a' z => by cases z; exact hb⟩
        · cases h
          exact ⟨fun a' z => by cases z; exact ha, fun a' z => (by cases z)⟩
    · cases h; exact ⟨fun a z => (by cases z), fun a z => (by cases z)⟩
theorem pRows_len : ∀ (k : Nat) (l l1 : List Int) (rs : List (List Int)), pRows k l = .inr (l1, rs) → rs.length ≤ l.length + 1 := by
  intro k
  induction k with
  | zero =>
    intro l l1 rs h
    unfold pRows at h
    split at h
    · cases h
    · split at h
      · cases h
      · cases h; simp
  | succ k ih =>
    intro l l1 rs h
    unfold pRows at h
    split at h
    · cases h
    · split at h
      · rename_i h124
        dsimp only at h
        cases hp : pRows k (l.dropWhile isChr).tail with
        | inl f => rw [hp] at h; cases h
        | inr q =>
          obtain ⟨l2, rs2⟩ := q
          rw [hp] at h
          cases h
          have h1 := ih _ _ _ hp
          have ht := tail_len (hd_ne h124 (by decide))
          have h4 := (List.dropWhile_sublist isChr (l := l)).length_le
          rw [List.length_cons]
          omega
      · cases h; simp
/-- the acts that are no group, no jump, no label -/
def acP : List Int := [97, 105, 99, 100, 106, 118, 108, 61, 104, 72, 117, 101, 62, 60, 115, 122, 111, 79, 109, 116, 114, 119, 107, 112, 110]
theorem pAct_K {inner : Bool} {w : Bool × Option SAdr × Option SAdr} {o : SOrd0} (h : pAct inner w l = .inr (l1, o)) (hl : l.length ≤ 24) (h48 : ¬ hd l1 = 48) (hw1 : ∀ a, w.2.1 = some a → AdK a) (hw2 : ∀ a, w.2.2 = some a → AdK a) : ((∀ a, oFst o = some a → AdK a) ∧ ∀ a, oSnd o = some a → AdK a) ∧ (-1 ≤ oNum o ∧ oNum o ≤ 99) ∧ (isOut (hd l) = false → OdK o ∧ OdP o) ∧ 0 ≤ oAct o ∧ oAct o < 128 := by
  have m0 : (-1 : Int) ≤ 0 ∧ (0 : Int) ≤ 99 := by decide
  have m1 : (-1 : Int) ≤ -1 ∧ (-1 : Int) ≤ 99 := by decide
  have z0 : (0 : Int) ≤ 0 ∧ (0 : Int) ≤ 99 := by decide
  have r0 : ([] : List (List Int)).length ≤ 40 := by decide
  have hlne : l ≠ [] := (pAct_out h).1
  have ht := tail_len hlne
  unfold pAct at h
  dsimp only at h
  by_cases h0 : l = [] ∨ (isOut (hd l) = true ∧ inner = true) ∨ (hd l = 58 ∧ (w.1 = true ∨ w.2.1 ≠ none))
  · rw [if_pos h0] at h; cases h
  rw [if_neg h0] at h
  clear h0
  have no115 : ∀ {c : Int} {v : SOrd0}, oAct v = c → c ≠ 115 → c ≠ 122 → 0 ≤ oNum v ∧ oNum v ≤ 99 → ChOk v := fun e n1 n2 hr => ⟨fun z => absurd (e.symm.trans z) n1, fun z => absurd (e.symm.trans z) n2, hr⟩
  by_cases hc : hd l = 97 ∨ hd l = 105 ∨ hd l = 99
  · rw [if_pos hc] at h
    cases hp : pRows l.tail.length l.tail with
    | inl f => rw [hp] at h; cases h
    | inr q =>
      obtain ⟨l2, rs⟩ := q
      rw [hp] at h
      have h1 := pRows_len _ _ _ _ hp
      have h2 := (pRows_ok _ _ _ _ hp).2
      cases h
      refine ⟨⟨hw1, hw2⟩, m0, fun _ => ⟨⟨z0, ⟨by show rs.length ≤ 40; omega, fun r hr => (h2 r hr).1⟩, no115 (c := hd l) rfl (by omega) (by omega) z0, hw1, hw2, fun a z => (by cases z)⟩, ?_, fun z => absurd (show hd l = 109 ∨ hd l = 116 from z) (by omega), fun z => absurd (show hd l = 107 from z) (by omega), fun z => absurd (show hd l = 114 ∨ hd l = 119 from z) (by omega)⟩, by show 0 ≤ hd l; omega, by show hd l < 128; omega⟩
      show hd l ∈ acP
      unfold acP
      rcases hc with z | z | z <;> rw [z] <;> decide
  rw [if_neg hc] at h; clear hc
  by_cases hc : hd l = 118 ∨ hd l = 62 ∨ hd l = 60 ∨ hd l = 111 ∨ hd l = 79
  · rw [if_pos hc] at h
    cases hp : pNum l.tail with
    | inl f => rw [hp] at h; cases h
    | inr q =>
      obtain ⟨l2, v⟩ := q
      rw [hp] at h
      have h1 := pNum_R9 hp
      cases h
      refine ⟨⟨hw1, hw2⟩, ⟨by show -1 ≤ v; omega, h1.2⟩, fun _ => ⟨⟨h1, ⟨r0, fun r hr => (by cases hr)⟩, no115 (c := hd l) rfl (by omega) (by omega) h1, hw1, hw2, fun a z => (by cases z)⟩, ?_, fun z => absurd (show hd l = 109 ∨ hd l = 116 from z) (by omega), fun z => absurd (show hd l = 107 from z) (by omega), fun z => absurd (show hd l = 114 ∨ hd l = 119 from z) (by omega)⟩, by show 0 ≤ hd l; omega, by show hd l < 128; omega⟩
      show hd l ∈ acP
      unfold acP
      rcases hc with z | z | z | z | z <;> rw [z] <;> decide
  rw [if_neg hc] at h; clear hc
  by_cases hc : hd l = 109 ∨ hd l = 116
  · rw [if_pos hc] at h
    cases hp : pAdr l.tail with
    | inl f => rw [hp] at h; cases h
    | inr q =>
      obtain ⟨l2, v⟩ := q
      rw [hp] at h
      have h1 := pAdr_K hp (by omega)
      cases h
      refine ⟨⟨hw1, hw2⟩, m0, fun _ => ⟨⟨z0, ⟨r0, fun r hr => (by cases hr)⟩, no115 (c := hd l) rfl (by omega) (by omega) z0, hw1, hw2, fun a z => by cases z; exact h1⟩, ?_, fun z => ⟨v, rfl⟩, fun z => absurd (show hd l = 107 from z) (by omega), fun z => absurd (show hd l = 114 ∨ hd l = 119 from z) (by omega)⟩, by show 0 ≤ hd l; omega, by show hd l < 128; omega⟩
      show hd l ∈ acP
      unfold acP
      rcases hc with z | z <;> rw [z] <;> decide
  rw [if_neg hc] at h; clear hc
  by_cases hc : hd l = 107
  · rw [if_pos hc] at h
    by_cases hm : isMrk (hd l.tail) = true
    · rw [if_pos hm] at h
      have h1 : 97 ≤ hd l.tail ∧ hd l.tail ≤ 101 := of_decide_eq_true hm
      cases h
      refine ⟨⟨hw1, hw2⟩, ⟨by show -1 ≤ hd l.tail - 97; omega, by show hd l.tail - 97 ≤ 99; omega⟩, fun _ => ⟨⟨⟨by show 0 ≤ hd l.tail - 97; omega, by show hd l.tail - 97 ≤ 99; omega⟩, ⟨r0, fun r hr => (by cases hr)⟩, no115 (c := hd l) rfl (by omega) (by omega) ⟨by show 0 ≤ hd l.tail - 97; omega, by show hd l.tail - 97 ≤ 99; omega⟩, hw1, hw2, fun a z => (by cases z)⟩, ?_, fun z => absurd (show hd l = 109 ∨ hd l = 116 from z) (by omega), fun z => (by show hd l.tail - 97 < 5; omega), fun z => absurd (show hd l = 114 ∨ hd l = 119 from z) (by omega)⟩, by show 0 ≤ hd l; omega, by show hd l < 128; omega⟩
      show hd l ∈ acP
      unfold acP
      rw [hc]; decide
    · rw [if_neg hm] at h; cases h
  rw [if_neg hc] at h; clear hc
  by_cases hc : hd l = 114 ∨ hd l = 119
  · rw [if_pos hc] at h
    by_cases hm : 48 ≤ hd l.tail ∧ hd l.tail ≤ 51
    · rw [if_pos hm] at h
      cases h
      refine ⟨⟨hw1, hw2⟩, ⟨by show -1 ≤ hd l.tail - 48; omega, by show hd l.tail - 48 ≤ 99; omega⟩, fun _ => ⟨⟨⟨by show 0 ≤ hd l.tail - 48; omega, by show hd l.tail - 48 ≤ 99; omega⟩, ⟨r0, fun r hr => (by cases hr)⟩, no115 (c := hd l) rfl (by omega) (by omega) ⟨by show 0 ≤ hd l.tail - 48; omega, by show hd l.tail - 48 ≤ 99; omega⟩, hw1, hw2, fun a z => (by cases z)⟩, ?_, fun z => absurd (show hd l = 109 ∨ hd l = 116 from z) (by omega), fun z => absurd (show hd l = 107 from z) (by omega), fun z => (by show hd l.tail - 48 < 4; omega)⟩, by show 0 ≤ hd l; omega, by show hd l < 128; omega⟩
      show hd l ∈ acP
      unfold acP
      rcases hc with z | z <;> rw [z] <;> decide
    · rw [if_neg hm] at h; cases h
  rw [if_neg hc] at h; clear hc
  by_cases hc : hd l = 58
  · rw [if_pos hc] at h
    by_cases hm : isLab (hd l.tail) = true
    · rw [if_pos hm] at h
      have h1 : 65 ≤ hd l.tail ∧ hd l.tail ≤ 90 := of_decide_eq_true hm
      cases h
      exact ⟨⟨hw1, hw2⟩, ⟨by show -1 ≤ hd l.tail - 65; omega, by show hd l.tail - 65 ≤ 99; omega⟩, fun z => by rw [hc] at z; exact absurd z (by decide), by show 0 ≤ hd l; omega, by show hd l < 128; omega⟩
    · rw [if_neg hm] at h; cases h
  rw [if_neg hc] at h; clear hc
  by_cases hc : hd l = 98 ∨ hd l = 84
  · rw [if_pos hc] at h
    have hout : isOut (hd l) = true := by rcases hc with z | z <;> rw [z] <;> decide
    by_cases hm : isLab (hd l.tail) = true
    · rw [if_pos hm] at h
      have h1 : 65 ≤ hd l.tail ∧ hd l.tail ≤ 90 := of_decide_eq_true hm
      cases h
      exact ⟨⟨hw1, hw2⟩, ⟨by show -1 ≤ hd l.tail - 65; omega, by show hd l.tail - 65 ≤ 99; omega⟩, fun z => (by rw [hout] at z; cases z), by show 0 ≤ hd l; omega, by show hd l < 128; omega⟩
    · rw [if_neg hm] at h
      cases h
      exact ⟨⟨hw1, hw2⟩, m1, fun z => (by rw [hout] at z; cases z), by show 0 ≤ hd l; omega, by show hd l < 128; omega⟩
  rw [if_neg hc] at h; clear hc
  by_cases hc : hd l = 115
  · rw [if_pos hc] at h
    cases hp : pRepl l.tail with
    | inl f => rw [hp] at h; cases h
    | inr q =>
      obtain ⟨l2, pt, pu, ea, nr⟩ := q
      rw [hp] at h
      have e2 : l2 = l1 := by cases h; rfl
      obtain ⟨la, c, lb, g1, g2, g3, g4, g5, g6, g7, g8, g9⟩ := pRepl_out hp (by rw [e2]; exact h48)
      have s1 := pPat_shr _ _ _ g2
      have s2 := tail_len (hd_ne g3 (by decide))
      have s3 := tail_len (hd_ne g5 (by decide))
      have s4 := tl_len l.tail
      have s5 : la.tail.length = pu.length + lb.length := by rw [g4, List.length_append]
      have hpk := pPat_K g2 (by omega)
      have hnr : 1 ≤ nr ∧ nr ≤ 99 := by
        rcases g9 with ⟨_, _, z⟩ | ⟨_, z1, _, z2, z3⟩ | ⟨_, _, _, z⟩
        · omega
        · have := isDig_R z1; omega
        · omega
      clear g9
      cases h
      refine ⟨⟨hw1, hw2⟩, ⟨by show -1 ≤ nr; omega, hnr.2⟩, fun _ => ⟨⟨⟨by show 0 ≤ nr; omega, hnr.2⟩, ⟨r0, fun r hr => (by cases hr)⟩, ⟨fun _ => ⟨hpk, by rw [show oPat (w.1, w.2.1, w.2.2, hd l, nr, [], none, pt, pu, [], ea) = pt from rfl, g8.2.1]; exact g8.2.2.2, by rw [show oPat (w.1, w.2.1, w.2.2, hd l, nr, [], none, pt, pu, [], ea) = pt from rfl, g8.2.1]; exact g6, hnr.1, by show pu.length ≤ 21; omega⟩, fun z => absurd (show hd l = 122 from z) (by omega), ⟨by show 0 ≤ nr; omega, hnr.2⟩⟩, hw1, hw2, fun a z => (by cases z)⟩, ?_, fun z => absurd (show hd l = 109 ∨ hd l = 116 from z) (by omega), fun z => absurd (show hd l = 107 from z) (by omega), fun z => absurd (show hd l = 114 ∨ hd l = 119 from z) (by omega)⟩, by show 0 ≤ hd l; omega, by show hd l < 128; omega⟩
      show hd l ∈ acP
      unfold acP
      rw [hc]; decide
  rw [if_neg hc] at h; clear hc
  by_cases hc : hd l = 122
  · rw [if_pos hc] at h
    cases hp : pTurn l.tail with
    | inl f => rw [hp] at h; cases h
    | inr q =>
      obtain ⟨l2, le, pu⟩ := q
      rw [hp] at h
      have h1 := (pTurn_out hp).2.2.1
      cases h
      refine ⟨⟨hw1, hw2⟩, m0, fun _ => ⟨⟨z0, ⟨r0, fun r hr => (by cases hr)⟩, ⟨fun z => absurd (show hd l = 115 from z) (by omega), fun _ => Nat.le_of_eq h1.symm, z0⟩, hw1, hw2, fun a z => (by cases z)⟩, ?_, fun z => absurd (show hd l = 109 ∨ hd l = 116 from z) (by omega), fun z => absurd (show hd l = 107 from z) (by omega), fun z => absurd (show hd l = 114 ∨ hd l = 119 from z) (by omega)⟩, by show 0 ≤ hd l; omega, by show hd l < 128; omega⟩
      show hd l ∈ acP
      unfold acP
      rw [hc]; decide
  rw [if_neg hc] at h; clear hc
  by_cases hc : isBar (hd l) = true
  · rw [if_pos hc] at h
    have hm := List.contains_iff_mem.mp hc
    have hm : hd l = 100 ∨ hd l = 106 ∨ hd l = 108 ∨ hd l = 112 ∨ hd l = 61 ∨ hd l = 110 ∨ hd l = 104 ∨ hd l = 72 ∨ hd l = 117 ∨ hd l = 101 ∨ hd l = 113 ∨ hd l = 78 := by simpa using hm
    have n3 : ¬ (hd l = 109 ∨ hd l = 116) := by omega
    have n4 : ¬ hd l = 107 := by omega
    have n5 : ¬ (hd l = 114 ∨ hd l = 119) := by omega
    have n6 : hd l ≠ 115 := by omega
    have n7 : hd l ≠ 122 := by omega
    have n8 : 0 ≤ hd l ∧ hd l < 128 := by omega
    cases h
    refine ⟨⟨hw1, hw2⟩, m0, fun ho => ⟨⟨z0, ⟨r0, fun r hr => (by cases hr)⟩, no115 rfl n6 n7 z0, hw1, hw2, fun a z => (by cases z)⟩, ?_, fun z => absurd z n3, fun z => absurd z n4, fun z => absurd z n5⟩, n8.1, n8.2⟩
    show hd l ∈ acP
    unfold acP
    rcases hm with z | z | z | z | z | z | z | z | z | z | z | z <;> rw [z] at ho ⊢ <;> first | decide | exact absurd ho (by decide)
  · rw [if_neg hc] at h; cases h
theorem pInner_K {o : SOrd0} (h : pInner l = .inr (l1, o)) (hl : l.length ≤ 24) (h48 : ¬ hd l1 = 48) : OdK o ∧ OdP o := by
  obtain ⟨l2, w, h1, h2⟩ := pInner_out h
  have hw := pWhere_K h1 hl
  have hs := pWhere_shr _ _ h1
  have ho := (pAct_out h2).2.2.1 rfl
  exact (pAct_K h2 (by omega) h48 hw.1 hw.2).2.2.1 ho
theorem pInners_K : ∀ (os : List SOrd0) (k : Nat) (l l1 : List Int), pInners k l = .inr (l1, os) → ¬ hd l1 = 48 → l.length ≤ 24 → ∀ o ∈ os, OdK o ∧ OdP o := by
  intro os
  induction os with
  | nil => intro k l l1 _ _ _ o ho; cases ho
  | cons o os ih =>
    intro k l l1 h h48 hl o' ho'
    obtain ⟨o2, l2, h1, h2⟩ := pInners_out h
    rcases h2 with ⟨_, z, e⟩ | ⟨h59, k', os', z, hp⟩
    · cases z
      rw [List.mem_singleton.mp ho']
      exact pInner_K h1 hl (by rw [← e]; exact h48)
    · cases z
      have hs := pInner_shr _ _ h1
      have ht := tl_len l2
      rcases List.mem_cons.mp ho' with w | w
      · rw [w]; exact pInner_K h1 hl (by rw [h59]; decide)
      · exact ih k' _ l1 hp h48 (by omega) o' w
theorem PartsP.K {os : List SOrd0} (h : PartsP l os) (hl : l.length ≤ 24) : ∀ o ∈ os, OdK o ∧ OdP o := by
  rcases h with ⟨_, k, lx, h1, h2⟩ | ⟨_, _, o, l1, h1, h2, h3⟩
  · have ht := tl_len l
    exact pInners_K os k _ lx h1 (by rw [h2]; decide) (by omega)
  · subst h1
    intro o' ho'
    rw [List.mem_singleton.mp ho']
    exact pInner_K h2 hl h3
/-- what is known of an order of a text -/
def OgK (o : SOrd) : Prop := ((∀ a, oFst o.1 = some a → AdK a) ∧ ∀ a, oSnd o.1 = some a → AdK a) ∧ (-1 ≤ oNum o.1 ∧ oNum o.1 ≤ 99) ∧ (0 ≤ oAct o.1 ∧ oAct o.1 < 128) ∧ ((sIsG (oAct o.1) = true ∧ OdK o.1 ∧ (oAct o.1 = 103 ∨ oAct o.1 = 71 → PatK (oPat o.1)) ∧ InnOk o.2 ∧ ∀ od ∈ o.2, OdK od ∧ OdP od) ∨ (sIsG (oAct o.1) = false ∧ isOut (oAct o.1) = true) ∨ (sIsG (oAct o.1) = false ∧ isOut (oAct o.1) = false ∧ OdK o.1 ∧ OdP o.1))
theorem pOrder_K {o : SOrd} (h : pOrder l = .inr (l1, o)) (hl : l.length ≤ 24) (h48 : ¬ hd l1 = 48) : OgK o := by
  obtain ⟨l2, w, h1, h2, h3, h4⟩ := pOrder_out h h48
  have hw := pWhere_K h1 hl
  have hs := pWhere_shr _ _ h1
  have hf : (∀ a, oFst o.1 = some a → AdK a) ∧ ∀ a, oSnd o.1 = some a → AdK a := by rw [h2.2.1, h2.2.2.1]; exact hw
  rcases h4 with ⟨g1, g2⟩ | ⟨g1, g2⟩
  · have hact : hd l2 = 123 ∨ hd l2 = 103 ∨ hd l2 = 71 := of_decide_eq_true g1
    have e9 : oNum o.1 = 0 ∧ oRows o.1 = [] ∧ oTgt o.1 = none := by
      unfold pOrder at h
      rw [h1] at h
      dsimp only at h
      by_cases h123 : hd l2 = 123
      · rw [if_pos h123] at h
        cases hb : pBlock l2 with
        | inl f => rw [hb] at h; cases h
        | inr q =>
          obtain ⟨l3, os⟩ := q
          rw [hb] at h
          cases h
          exact ⟨rfl, rfl, rfl⟩
      rw [if_neg h123] at h
      by_cases hg : hd l2 = 103 ∨ hd l2 = 71
      · rw [if_pos hg] at h
        split at h
        · cases hb : pPat 47 l2.tail.tail with
          | inl f => rw [hb] at h; cases h
          | inr q =>
            obtain ⟨l3, gq, pt⟩ := q
            rw [hb] at h
            dsimp only at h
            split at h
            · split at h
              · cases hc : pBlock l3.tail with
                | inl f => rw [hc] at h; cases h
                | inr q =>
                  obtain ⟨l4, os⟩ := q
                  rw [hc] at h
                  cases h
                  exact ⟨rfl, rfl, rfl⟩
              · cases hc : pInner l3.tail with
                | inl f => rw [hc] at h; cases h
                | inr q =>
                  obtain ⟨l4, os⟩ := q
                  rw [hc] at h
                  cases h
                  exact ⟨rfl, rfl, rfl⟩
            · cases h
        · cases h
      · exact absurd hact (by omega)
    have ea : oAct o.1 = hd l2 := h2.2.2.2
    have hnr : 0 ≤ oNum o.1 ∧ oNum o.1 ≤ 99 := by rw [e9.1]; decide
    refine ⟨hf, ⟨by omega, by omega⟩, ⟨by omega, by omega⟩, Or.inl ⟨by rw [ea]; exact g1, ⟨hnr, ⟨by rw [e9.2.1]; decide, fun r hr => by rw [e9.2.1] at hr; cases hr⟩, ⟨fun z => by omega, fun z => by omega, hnr⟩, hf.1, hf.2, fun a z => by rw [e9.2.2] at z; cases z⟩, ?_, g2.ok, ?_⟩⟩
    · intro hg
      rcases g2 with ⟨z, z2, _⟩ | ⟨_, _, _, l3, gq, hp, _⟩
      · omega
      · have t1 := tl_len l2
        have t2 := tl_len l2.tail
        exact pPat_K hp (by omega)
    · rcases g2 with ⟨_, _, hp⟩ | ⟨_, _, _, l3, gq, hp, _, hp2⟩
      · exact hp.K (by omega)
      · have t1 := tl_len l2
        have t2 := tl_len l2.tail
        have t3 := pPat_shr _ _ _ hp
        have t4 := tl_len l3
        exact hp2.K (by omega)
  · obtain ⟨k1, k2, k3, k4⟩ := pAct_K g2 (by omega) h48 hw.1 hw.2
    have ea : oAct o.1 = hd l2 := h2.2.2.2
    refine ⟨hf, k2, k4, ?_⟩
    cases ho : isOut (hd l2) with
    | true => exact Or.inr (Or.inl ⟨by rw [ea]; exact g1, by rw [ea]; exact ho⟩)
    | false => exact Or.inr (Or.inr ⟨by rw [ea]; exact g1, by rw [ea]; exact ho, k3 ho⟩)
theorem pOrder_lt {o : SOrd} (h : pOrder l = .inr (l1, o)) (h48 : ¬ hd l1 = 48) : l1.length ≤ l.length ∧ l ≠ [] := by
  refine ⟨pOrder_shr _ _ h, fun z => ?_⟩
  obtain ⟨l2, w, h1, _, h3, _⟩ := pOrder_out h h48
  have := pWhere_shr _ _ h1
  rw [z] at this
  exact h3 (List.length_eq_zero_iff.mp (by simpa using this))
theorem pOrders_K : ∀ (os : List SOrd) (k : Nat) (l l1 : List Int), pOrders k l = .inr (l1, os) → ¬ hd l1 = 48 → l.length ≤ 24 → (∀ o ∈ os, OrdOk o ∧ OgK o) ∧ os.length ≤ l.length + 1 ∧ 0 < os.length := by
  intro os
  induction os with
  | nil =>
    intro k l l1 h _ _
    obtain ⟨o2, l2, h1, h2⟩ := pOrders_out h
    rcases h2 with ⟨_, z, e⟩ | ⟨h59, k', os', z, hp⟩ <;> cases z
  | cons o os ih =>
    intro k l l1 h h48 hl
    obtain ⟨o2, l2, h1, h2⟩ := pOrders_out h
    rcases h2 with ⟨_, z, e⟩ | ⟨h59, k', os', z, hp⟩
    · cases z
      refine ⟨fun o' ho' => ?_, by simp, by simp⟩
      rw [List.mem_singleton.mp ho']
      exact ⟨⟨l, l2, h1, by rw [← e]; exact h48⟩, pOrder_K h1 hl (by rw [← e]; exact h48)⟩
    · cases z
      have h48' : ¬ hd l2 = 48 := by rw [h59]; decide
      have hs := (pOrder_lt h1 h48').1
      have ht := tail_len (hd_ne h59 (by decide))
      obtain ⟨g1, g2, g3⟩ := ih k' _ l1 hp h48 (by omega)
      refine ⟨fun o' ho' => ?_, by rw [List.length_cons]; omega, by simp⟩
      rcases List.mem_cons.mp ho' with w | w
      · rw [w]; exact ⟨⟨l, l2, h1, h48'⟩, pOrder_K h1 hl h48'⟩
      · exact g1 o' w
theorem sOrders_K {s : List Int} {os : List SOrd} (h : sOrders s = .inr os) (hl : s.length ≤ 24) : (∀ o ∈ os, OrdOk o ∧ OgK o) ∧ os.length ≤ 25 ∧ 0 < os.length := by
  unfold sOrders at h
  cases hp : pOrders s.length s with
  | inl f => rw [hp] at h; cases h
  | inr q =>
    obtain ⟨l, os'⟩ := q
    rw [hp] at h
    dsimp only at h
    split at h
    · rename_i hl0
      cases h
      obtain ⟨g1, g2, g3⟩ := pOrders_K _ _ _ _ hp (by rw [hl0]; decide) hl
      exact ⟨g1, by omega, g3⟩
    · cases h
/-- inner orders: how many -/
theorem pInners_len : ∀ (os : List SOrd0) (k : Nat) (l l1 : List Int), pInners k l = .inr (l1, os) → os.length ≤ l.length + 1 := by
  intro os
  induction os with
  | nil => intro k l l1 _; simp
  | cons o os ih =>
    intro k l l1 h
    obtain ⟨o2, l2, h1, h2⟩ := pInners_out h
    rcases h2 with ⟨_, z, e⟩ | ⟨h59, k', os', z, hp⟩
    · cases z; simp
    · cases z
      have hs := pInner_shr _ _ h1
      have ht := tail_len (hd_ne h59 (by decide))
      have := ih k' _ l1 hp
      rw [List.length_cons]
      omega
end PU
