set_option maxRecDepth 100000
/-! what a pattern's parts are like -/
section SWf
variable {l : List Int}
theorem pPlain_kd {st : Nat} {l1 : List Int} {st1 : Nat} {p : SPart} (h : pPlain st l = .inr (l1, st1, p)) : p.1 ≤ 3 ∧ st1 = st + (if p.1 = 2 then 1 else 0) ∧ (st ≤ 2 → st1 ≤ 2) := by
  unfold pPlain at h
  split at h
  · cases h
  split at h
  · split at h
    · cases h; exact ⟨by decide, rfl, fun _ => by omega⟩
    · cases h
  split at h
  · cases h; exact ⟨by decide, rfl, id⟩
  split at h
  · dsimp only at h
    by_cases h1 : (if decide (hd l.tail = 94) = true then l.tail.tail else l.tail).takeWhile isChr = []
    · rw [if_pos h1] at h; cases h
    · rw [if_neg h1] at h
      by_cases h2 : hd ((if decide (hd l.tail = 94) = true then l.tail.tail else l.tail).dropWhile isChr) = 93
      · rw [if_pos h2] at h; cases h; exact ⟨Nat.le_refl _, rfl, id⟩
      · rw [if_neg h2] at h; cases h
  split at h
  · cases h; exact ⟨Nat.zero_le _, rfl, id⟩
  · cases h
theorem wfp_plain {S : Nat} {o : Bool} {ps : List SPart} {kd nr : Nat} {sg : List Int} {neg : Bool} (h : kd ≤ 3) : wfp S o ((kd, nr, sg, neg) :: ps) ↔ wfp S o ps := by
  conv => lhs; unfold wfp
  rw [if_neg (by omega), if_neg (by omega), if_neg (by omega)]
/-- all parts plain, then the rest -/
theorem wfp_app : ∀ (qs : List SPart) (S : Nat) (o : Bool) (ps : List SPart), (∀ p ∈ qs, p.1 ≤ 3) → wfp S o ps → wfp S o (qs ++ ps) := by
  intro qs
  induction qs with
  | nil => intro S o ps _ h; exact h
  | cons q qs ih =>
    intro S o ps hq h
    obtain ⟨kd, nr, sg, neg⟩ := q
    exact (wfp_plain (hq _ List.mem_cons_self)).mpr (ih S o ps (fun p hp => hq p (List.mem_cons_of_mem _ hp)) h)
theorem pGrp_kd : ∀ (k st : Nat) (acc : List SPart) (l l1 : List Int) (st1 : Nat) (ps : List SPart), (∀ p ∈ acc, p.1 ≤ 3) → pGrp k st acc l = .inr (l1, st1, ps) → ∀ p ∈ ps, p.1 ≤ 3 := by
  intro k
  induction k with
  | zero =>
    intro st acc l l1 st1 ps ha h
    unfold pGrp at h
    split at h
    · cases h; exact ha
    · cases h
  | succ k ih =>
    intro st acc l l1 st1 ps ha h
    unfold pGrp at h
    split at h
    · cases h; exact ha
    · dsimp only at h
      cases hp : pPlain st l with
      | inl f => rw [hp] at h; cases h
      | inr v =>
        obtain ⟨l2, st2, p2⟩ := v
        rw [hp] at h
        refine ih st2 (acc ++ [p2]) l2 l1 st1 ps (fun p hq => ?_) h
        rcases List.mem_append.mp hq with z | z
        · exact ha p z
        · rw [List.mem_singleton.mp z]; exact (pPlain_kd hp).1
theorem clo_app : ∀ (qs : List SPart) (S : Nat) (ps : List SPart), (∀ p ∈ qs, p.1 ≤ 3) → clo S (qs ++ ps) = clo S ps := by
  intro qs
  induction qs with
  | nil => intro S ps _; rfl
  | cons q qs ih =>
    intro S ps hq
    obtain ⟨kd, nr, sg, neg⟩ := q
    have h3 : kd ≤ 3 := hq _ List.mem_cons_self
    rw [List.cons_append]
    conv => lhs; unfold clo
    rw [if_neg (by omega)]
    exact ih S ps (fun p hp => hq p (List.mem_cons_of_mem _ hp))
theorem stars_app (a b : List SPart) : stars (a ++ b) = stars a + stars b := by unfold stars; rw [List.filter_append, List.length_append]
theorem pGrp_st9 : ∀ (k st : Nat) (acc : List SPart) (l l1 : List Int) (st1 : Nat) (ps : List SPart), st ≤ 2 → pGrp k st acc l = .inr (l1, st1, ps) → st1 ≤ 2 ∧ st1 + stars acc = st + stars ps := by
  intro k
  induction k with
  | zero =>
    intro st acc l l1 st1 ps hs h
    unfold pGrp at h
    split at h
    · cases h; exact ⟨hs, rfl⟩
    · cases h
  | succ k ih =>
    intro st acc l l1 st1 ps hs h
    unfold pGrp at h
    split at h
    · cases h; exact ⟨hs, rfl⟩
    · dsimp only at h
      cases hp : pPlain st l with
      | inl f => rw [hp] at h; cases h
      | inr v =>
        obtain ⟨l2, st2, p2⟩ := v
        rw [hp] at h
        have hk := pPlain_kd hp
        have := ih st2 (acc ++ [p2]) l2 l1 st1 ps (hk.2.2 hs) h
        rw [stars_snoc] at this
        omega
/-- what reading items keeps: acc has closed cl groups -/
def IW (acc : List SPart) (cl st : Nat) : Prop := (∀ rest, wfp cl false rest → wfp 0 false (acc ++ rest)) ∧ (∀ rest, clo 0 (acc ++ rest) = clo cl rest) ∧ stars acc = st ∧ st ≤ 2 ∧ cl ≤ 2
theorem IW.plain {acc : List SPart} {cl st st1 : Nat} {p : SPart} {l1 : List Int} (h : IW acc cl st) (hp : pPlain st l = .inr (l1, st1, p)) : IW (acc ++ [p]) cl st1 := by
  have hk := pPlain_kd hp
  obtain ⟨kd, nr, sg, neg⟩ := p
  have h3 : kd ≤ 3 := hk.1
  refine ⟨fun rest hr => ?_, fun rest => ?_, ?_, hk.2.2 h.2.2.2.1, h.2.2.2.2⟩
  · rw [List.append_assoc]
    exact h.1 _ ((wfp_plain h3).mpr hr)
  · rw [List.append_assoc, h.2.1]
    show clo cl ((kd, nr, sg, neg) :: rest) = _
    conv => lhs; unfold clo
    rw [if_neg (by omega)]
  · rw [stars_snoc, h.2.2.1, hk.2.1]
theorem IW.item {acc : List SPart} {cl st cl1 st1 : Nat} {ps : List SPart} {l1 : List Int} (h : IW acc cl st) (hp : pItem cl st l = .inr (l1, cl1, st1, ps)) : IW (acc ++ ps) cl1 st1 := by
  unfold pItem at hp
  split at hp
  · split at hp
    · rename_i hcl
      cases hg : pGrp 12 st [] l.tail with
      | inl f => rw [hg] at hp; cases hp
      | inr v =>
        obtain ⟨l2, st2, qs⟩ := v
        rw [hg] at hp
        cases hp
        have hq := pGrp_kd _ _ _ _ _ _ _ (fun p z => by cases z) hg
        have hs := pGrp_st9 _ _ _ _ _ _ _ h.2.2.2.1 hg
        refine ⟨fun rest hr => ?_, fun rest => ?_, ?_, hs.1, by omega⟩
        · rw [List.append_assoc]
          refine h.1 _ ?_
          show wfp cl false ((4, cl + 1, [], false) :: (qs ++ [(5, cl + 1, [], false)]) ++ rest)
          rw [List.cons_append, List.append_assoc]
          unfold wfp
          rw [if_pos rfl]
          refine ⟨⟨rfl, rfl, hcl⟩, wfp_app qs cl true _ hq ?_⟩
          show wfp cl true ((5, cl + 1, [], false) :: rest)
          unfold wfp
          rw [if_neg (by decide), if_pos rfl]
          exact ⟨⟨rfl, rfl, hcl⟩, hr⟩
        · rw [List.append_assoc, h.2.1]
          show clo cl ((4, cl + 1, [], false) :: (qs ++ [(5, cl + 1, [], false)]) ++ rest) = _
          rw [List.cons_append, List.append_assoc]
          conv => lhs; unfold clo
          rw [if_neg (by decide), clo_app qs cl _ hq]
          show clo cl ((5, cl + 1, [], false) :: rest) = _
          conv => lhs; unfold clo
          rw [if_pos rfl]
        · rw [stars_app, h.2.2.1]
          have e : stars ((4, cl + 1, [], false) :: qs ++ [(5, cl + 1, [], false)]) = stars qs := by
            rw [stars_snoc, if_neg (by intro z; cases z)]
            rfl
          rw [e]
          have e0 : stars ([] : List SPart) = 0 := rfl
          rw [e0] at hs
          omega
    · cases hp
  · split at hp
    · split at hp
      · split at hp
        · rename_i hc0 hrg
          cases hp
          refine ⟨fun rest hr => ?_, fun rest => ?_, ?_, h.2.2.2⟩
          · rw [List.append_assoc]
            refine h.1 _ ?_
            show wfp cl false ((6, (hd l.tail - 48).toNat, [], false) :: rest)
            unfold wfp
            rw [if_neg (by decide), if_neg (by decide), if_pos rfl]
            exact ⟨⟨rfl, by omega, by omega⟩, hr⟩
          · rw [List.append_assoc, h.2.1]
            show clo cl ((6, (hd l.tail - 48).toNat, [], false) :: rest) = _
            conv => lhs; unfold clo
            rw [if_neg (by decide)]
          · rw [stars_snoc, h.2.2.1, if_neg (by intro z; cases z)]; rfl
        · cases hp
      · cases hp
    · cases hpp : pPlain st l with
      | inl f => rw [hpp] at hp; cases hp
      | inr v =>
        obtain ⟨l2, st2, p2⟩ := v
        rw [hpp] at hp
        cases hp
        exact h.plain hpp
theorem IW.items (c : Int) : ∀ (k cl st : Nat) (acc : List SPart) (l l1 : List Int) (cl1 : Nat) (ps : List SPart), IW acc cl st → pItems c k cl st acc l = .inr (l1, cl1, ps) → ∃ st1, IW ps cl1 st1 := by
  intro k
  induction k with
  | zero =>
    intro cl st acc l l1 cl1 ps h hp
    unfold pItems at hp
    split at hp
    · cases hp; exact ⟨st, h⟩
    · cases hp
  | succ k ih =>
    intro cl st acc l l1 cl1 ps h hp
    unfold pItems at hp
    split at hp
    · cases hp; exact ⟨st, h⟩
    · dsimp only at hp
      cases hi : pItem cl st l with
      | inl f => rw [hi] at hp; cases hp
      | inr v =>
        obtain ⟨l2, cl2, st2, its⟩ := v
        rw [hi] at hp
        exact ih cl2 st2 _ l2 l1 cl1 ps (h.item hi) hp
/-- a pattern that was read -/
def PatOk (pt : SPat) (g : Nat) : Prop := wfp 0 false pt.1 ∧ clo 0 pt.1 = g ∧ stars pt.1 ≤ 2 ∧ g ≤ 2
theorem pPat_ok {c : Int} {l1 : List Int} {g : Nat} {pt : SPat} (h : pPat c l = .inr (l1, g, pt)) : PatOk pt g := by
  rw [pPat_E] at h
  cases hi : pItems c 12 0 0 [] (if decide (hd l = 94) = true then l.tail else l) with
  | inl f => rw [hi] at h; cases h
  | inr v =>
    obtain ⟨l2, cl, ps⟩ := v
    rw [hi] at h
    unfold pPatE at h
    dsimp only at h
    split at h
    · cases h
    · obtain ⟨st, hw⟩ := IW.items c 12 0 0 [] _ l2 cl ps ⟨fun rest hr => hr, fun rest => rfl, rfl, by decide, by decide⟩ hi
      cases h
      have h1 := hw.1 [] rfl
      have h2 := hw.2.1 []
      rw [List.append_nil] at h1 h2
      exact ⟨h1, h2, by rw [hw.2.2.1]; exact hw.2.2.2.1, hw.2.2.2.2⟩
end SWf
