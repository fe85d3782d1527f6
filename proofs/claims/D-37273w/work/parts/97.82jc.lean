-- C
set_option maxRecDepth 100000
/-! THE JDK's contracts with states as names -/
section JC
variable {d n q l it k e lr mc cap i a b c w : Nat} {S S' : BS} {xs : List (Option Nat)} {s s2 : List Int} {v r : Option Nat} {x : Int} {o o' : Obj} {Mm : Int → Option Nat}
theorem Fr.upE2 {k : Nat} (ho : o ≠ oNil) (ho' : o' ≠ oNil) (hab : a ≠ b) (e : S' = (upH (upH S.1 a o) b o', S.2.1, S.2.2.1, S.2.2.2 + k)) : Ob S' a o ∧ Ob S' b o' ∧ Fr S S' (fun m => m = a ∨ m = b) k := by
  subst e
  refine ⟨(upH_ne hab).trans upH_eq, upH_eq, fun m hm => ?_, fun m hm hb => ⟨(upH_ne (fun z => hb (Or.inr z))).trans (upH_ne (fun z => hb (Or.inl z))), fun _ _ => ⟨rfl, rfl⟩⟩, Nat.le_refl _⟩
  by_cases z2 : m = b
  · rw [z2]; exact fun z => ho' (upH_eq.symm.trans z)
  · by_cases z1 : m = a
    · rw [z1]; exact fun z => ho ((upH_ne hab).trans upH_eq |>.symm.trans z)
    · exact fun z => hm (((upH_ne z2).trans (upH_ne z1)).symm.trans z)
theorem Fr.upN {k : Nat} (hq : S.1 q = oNil) (ho : o ≠ oNil) (e : S' = (upH S.1 q o, S.2.1, S.2.2.1, S.2.2.2 + k)) : Ob S' q o ∧ Fr0 S S' k := by
  obtain ⟨h1, h2⟩ := Fr.upE ho e
  exact ⟨h1, h2.w (fun m hm z => hm (by rw [z]; exact hq)) (Nat.le_refl _)⟩
theorem C_llGet (hn : Ob S n (oLl xs mc)) (hi : i < xs.length) (hr : xs.getD i none = r) (hx : x = i) : BE (d + 3) gk_J3_get [aR n, aI x] S (vR r) := by
  subst hx hr
  obtain ⟨H, fi, fr, t⟩ := S
  exact B_llGet (d := d) hn hi
theorem C_itNew (hn : Ob S l (oLl xs mc)) (hk : k ≤ xs.length) (hl : xs.length < 1000000) (hx : x = k) : BMr (d + 3) gk_J3_listIterator [aR l, aI x] S (fun r S' => ∃ it, r = vR (some it) ∧ S.1 it = oNil ∧ 1000 ≤ it ∧ Ob S' it (oIt l k mc 0) ∧ Fr0 S S' 17) := by
  subst hx
  obtain ⟨H, fi, fr, t⟩ := S
  refine BMr.mono (B_itNew (d := d) hn hk hl) (fun r S' ⟨it, h1, h2, h3, h4⟩ => ⟨it, h1, h2, h3, ?_⟩)
  exact Fr.upN (S := (H, fi, fr, t)) h2 (oNe rfl) h4
theorem C_llIt (hn : Ob S l (oLl xs mc)) (hl : xs.length < 1000000) : BMr (d + 4) gk_J1_listIterator [aR l] S (fun r S' => ∃ it, r = vR (some it) ∧ S.1 it = oNil ∧ 1000 ≤ it ∧ Ob S' it (oIt l 0 mc 0) ∧ Fr0 S S' 17) := by
  obtain ⟨H, fi, fr, t⟩ := S
  refine BMr.mono (B_llIt (d := d) hn hl) (fun r S' ⟨it, h1, h2, h3, h4⟩ => ⟨it, h1, h2, h3, ?_⟩)
  exact Fr.upN (S := (H, fi, fr, t)) h2 (oNe rfl) h4
theorem C_itNext (hi : Ob S it (oIt l k e lr)) (hl : Ob S l (oLl xs e)) (hx : xs.length < 1000000) (hk : k < xs.length) (hr : xs.getD k none = r) : BMr (d + 2) gk_J35_next [aR it] S (fun r' S' => r' = vR r ∧ Ob S' it (oIt l (k + 1) e (k + 1)) ∧ Fr1 S S' it 0) := by
  subst hr
  obtain ⟨H, fi, fr, t⟩ := S
  exact BMr.mono (B_itNext (d := d) hi hl hx hk) (fun r S' ⟨h1, h2⟩ => ⟨h1, Fr.upE (S := (H, fi, fr, t)) (k := 0) (oNe rfl) h2⟩)
theorem C_itPrev (hi : Ob S it (oIt l k e lr)) (hl : Ob S l (oLl xs e)) (hx : xs.length < 1000000) (hk : 0 < k) : BMr (d + 2) gk_J35_previous [aR it] S (fun r' S' => r' = vR (xs.getD (k - 1) none) ∧ Ob S' it (oIt l (k - 1) e k) ∧ Fr1 S S' it 0) := by
  obtain ⟨H, fi, fr, t⟩ := S
  exact BMr.mono (B_itPrev (d := d) hi hl hx hk) (fun r S' ⟨h1, h2⟩ => ⟨h1, Fr.upE (S := (H, fi, fr, t)) (k := 0) (oNe rfl) h2⟩)
theorem C_itSet {j : Nat} (hi : Ob S it (oIt l k e (j + 1))) (hl : Ob S l (oLl xs e)) (hj : j < xs.length) (hv : vOk S.1 v) : BMr (d + 2) gk_J35_set [aR it, aQ v] S (fun r' S' => r' = none ∧ Ob S' l (oLl (xs.set j v) e) ∧ Fr1 S S' l 0) := by
  obtain ⟨H, fi, fr, t⟩ := S
  exact BMr.mono (B_itSet (d := d) hi hl hj hv) (fun r S' ⟨h1, h2⟩ => ⟨h1, Fr.upE (S := (H, fi, fr, t)) (k := 0) (oNe rfl) h2⟩)
theorem C_itAdd (hi : Ob S it (oIt l k e lr)) (hl : Ob S l (oLl xs e)) (hx : xs.length < 1000000) (hv : vOk S.1 v) (ht : S.2.2.2 < 1000000000) : BMr (d + 3) gk_J35_add [aR it, aQ v] S (fun r' S' => r' = none ∧ Ob S' l (oLl (insA xs k v) (e + 1)) ∧ Ob S' it (oIt l (k + 1) (e + 1) 0) ∧ Fr S S' (fun m => m = l ∨ m = it) 16) := by
  have hne := hl.ne hi (oNe rfl)
  obtain ⟨H, fi, fr, t⟩ := S
  exact BMr.mono (B_itAdd (d := d) hi hl hx hv ht) (fun r S' ⟨h1, h2⟩ => ⟨h1, Fr.upE2 (S := (H, fi, fr, t)) (oNe rfl) (oNe rfl) hne h2⟩)
theorem C_itRem (hi : Ob S it (oIt l k e k)) (hl : Ob S l (oLl xs e)) (hx : xs.length < 1000000) (hk : 0 < k) (ht : S.2.2.2 < 1000000000) : BMr (d + 2) gk_J35_remove [aR it] S (fun r' S' => r' = none ∧ Ob S' l (oLl (delA xs (k - 1)) (e + 1)) ∧ Ob S' it (oIt l (k - 1) (e + 1) 0) ∧ Fr S S' (fun m => m = l ∨ m = it) 1) := by
  have hne := hl.ne hi (oNe rfl)
  obtain ⟨H, fi, fr, t⟩ := S
  exact BMr.mono (B_itRem (d := d) hi hl hx hk ht) (fun r S' ⟨h1, h2⟩ => ⟨h1, Fr.upE2 (S := (H, fi, fr, t)) (oNe rfl) (oNe rfl) hne h2⟩)
theorem C_llAdd (hn : Ob S n (oLl xs mc)) (hv : vOk S.1 v) (hl : xs.length < 1000000) (ht : S.2.2.2 < 1000000000) : BMr (d + 3) gk_J3_addLast [aR n, aQ v] S (fun r' S' => r' = none ∧ Ob S' n (oLl (xs ++ [v]) (mc + 1)) ∧ Fr1 S S' n 16) := by
  obtain ⟨H, fi, fr, t⟩ := S
  exact BMr.mono (B_llAdd (d := d) hn hv hl ht) (fun r S' ⟨h1, h2⟩ => ⟨h1, Fr.upE (S := (H, fi, fr, t)) (oNe rfl) h2⟩)
theorem C_llClr (hn : Ob S n (oLl xs mc)) (ht : S.2.2.2 < 1000000000) : BMr (d + 1) gk_J3_clear [aR n] S (fun r' S' => r' = none ∧ Ob S' n (oLl [] (mc + 1)) ∧ Fr1 S S' n 1) := by
  obtain ⟨H, fi, fr, t⟩ := S
  exact BMr.mono (B_llClr (d := d) hn ht) (fun r S' ⟨h1, h2⟩ => ⟨h1, Fr.upE (S := (H, fi, fr, t)) (oNe rfl) h2⟩)
theorem C_llAll {l2 mc2 : Nat} {ys : List (Option Nat)} (hn : Ob S n (oLl xs mc)) (hn2 : Ob S l2 (oLl ys mc2)) (hl : xs.length < 1000000) (hl2 : ys.length < 60000) (ht : S.2.2.2 < 1000000000) : BMr (d + 5) gk_J3_addAll [aR n, aR l2] S (fun r' S' => (∃ z : Int, r' = vI z) ∧ ∃ mc', Ob S' n (oLl (xs ++ ys) mc') ∧ Fr1 S S' n (13 + 16 * ys.length)) := by
  obtain ⟨H, fi, fr, t⟩ := S
  exact BMr.mono (B_llAll (d := d) hn hn2 hl hl2 ht) (fun r S' ⟨h1, mc', h2, h3⟩ => ⟨h1, mc', Fr.upE (S := (H, fi, fr, t)) (oNe rfl) (by rw [h3, Nat.add_assoc])⟩)
theorem C_tmGet (hn : Ob S n (oTm Mm)) (hx : 0 ≤ x ∧ x < 128) (hr : Mm x = r) : BE (d + 5) gk_J5_get [aR n, aR (x + 128).toNat] S (vR r) := by
  subst hr
  obtain ⟨H, fi, fr, t⟩ := S
  exact B_tmGet (d := d) hn hx
theorem C_tmPut {v : Nat} (hn : Ob S n (oTm Mm)) (hx : 0 ≤ x ∧ x < 128) (hv : vOk S.1 (some v)) (ht : S.2.2.2 < 1000000000) : BMr (d + 7) gk_J5_put_2 [aR n, aR (x + 128).toNat, aR v] S (fun r' S' => r' = vR (Mm x) ∧ Ob S' n (oTm (upM Mm x (some v))) ∧ Fr1 S S' n 19) := by
  obtain ⟨H, fi, fr, t⟩ := S
  exact BMr.mono (B_tmPut (d := d) hn hx hv ht) (fun r S' ⟨h1, h2⟩ => ⟨h1, Fr.upE (S := (H, fi, fr, t)) (oNe rfl) h2⟩)
theorem C_tmPutA {v : Nat} (hn : Ob S n (oTm Mm)) (hx : 0 ≤ x ∧ x < 128) (hv : vOk S.1 (some v)) (ht : S.2.2.2 < 1000000000) : BMr (d + 7) gk_J5_putIfAbsent [aR n, aR (x + 128).toNat, aR v] S (fun r' S' => r' = vR (Mm x) ∧ Ob S' n (oTm (if Mm x = none then upM Mm x (some v) else Mm)) ∧ Fr1 S S' n 19) := by
  obtain ⟨H, fi, fr, t⟩ := S
  refine BMr.mono (B_tmPutA (d := d) hn hx hv ht) (fun r S' ⟨h1, h2, h3⟩ => ⟨h1, ?_⟩)
  by_cases z : Mm x = none
  · rw [if_pos z]
    exact Fr.upE (S := (H, fi, fr, t)) (oNe rfl) (h2 z)
  · rw [if_neg z, h3 z]
    exact ⟨hn, (Fr.rf (S := (H, fi, fr, t)) (W := fun m => m = n)).w (fun _ _ z => z) (Nat.zero_le _)⟩
theorem C_tmRem (hn : Ob S n (oTm Mm)) (hx : 0 ≤ x ∧ x < 128) (ht : S.2.2.2 < 1000000000) : BMr (d + 5) gk_J5_remove [aR n, aR (x + 128).toNat] S (fun r' S' => r' = vR (Mm x) ∧ Ob S' n (oTm (upM Mm x none)) ∧ Fr1 S S' n 1) := by
  obtain ⟨H, fi, fr, t⟩ := S
  exact BMr.mono (B_tmRem (d := d) hn hx ht) (fun r S' ⟨h1, h2⟩ => ⟨h1, Fr.upE (S := (H, fi, fr, t)) (oNe rfl) h2⟩)
theorem C_tmClr (hn : Ob S n (oTm Mm)) (ht : S.2.2.2 < 1000000000) : BMr (d + 1) gk_J5_clear [aR n] S (fun r' S' => r' = none ∧ Ob S' n (oTm (fun _ => none)) ∧ Fr1 S S' n 1) := by
  obtain ⟨H, fi, fr, t⟩ := S
  exact BMr.mono (B_tmClr (d := d) hn ht) (fun r S' ⟨h1, h2⟩ => ⟨h1, Fr.upE (S := (H, fi, fr, t)) (oNe rfl) h2⟩)
theorem C_tmNew (hn : Ob S n (oRaw 21)) : BMr (d + 2) gk_J5_init [aR n] S (fun r' S' => r' = none ∧ Ob S' n (oTm (fun _ => none)) ∧ Fr1 S S' n 0) := by
  obtain ⟨H, fi, fr, t⟩ := S
  exact BMr.mono (B_tmNew (d := d) hn) (fun r S' ⟨h1, h2⟩ => ⟨h1, Fr.upE (S := (H, fi, fr, t)) (k := 0) (oNe rfl) h2⟩)
theorem C_alSet (hn : Ob S n (oAl xs cap)) (hi : i < xs.length) (hx : x = i) (hv : vOk S.1 v) : BMr (d + 3) gk_J6_set [aR n, aI x, aQ v] S (fun r' S' => r' = vR (xs.getD i none) ∧ Ob S' n (oAl (xs.set i v) cap) ∧ Fr1 S S' n 0) := by
  subst hx
  obtain ⟨H, fi, fr, t⟩ := S
  exact BMr.mono (B_alSet (d := d) hn (i := i) ⟨by omega, by omega⟩ hv) (fun r S' ⟨h1, h2⟩ => ⟨h1, Fr.upE (S := (H, fi, fr, t)) (k := 0) (oNe rfl) h2⟩)
theorem C_alClr (hn : Ob S n (oAl xs cap)) (ht : S.2.2.2 < 1000000000) : BMr (d + 1) gk_J6_clear [aR n] S (fun r' S' => r' = none ∧ Ob S' n (oAl [] cap) ∧ Fr1 S S' n 1) := by
  obtain ⟨H, fi, fr, t⟩ := S
  exact BMr.mono (B_alClr (d := d) hn ht) (fun r S' ⟨h1, h2⟩ => ⟨h1, Fr.upE (S := (H, fi, fr, t)) (oNe rfl) h2⟩)
theorem C_alRem (hn : Ob S n (oAl xs cap)) (hl : 0 < xs.length) (ht : S.2.2.2 < 1000000000) (hx : x = xs.length - 1) : BMr (d + 3) gk_J6_remove [aR n, aI x] S (fun r' S' => (∃ q, r' = vR q) ∧ Ob S' n (oAl (xs.take (xs.length - 1)) cap) ∧ Fr1 S S' n 1) := by
  subst hx
  obtain ⟨H, fi, fr, t⟩ := S
  exact BMr.mono (B_alRem (d := d) hn hl ht) (fun r S' ⟨h1, h2⟩ => ⟨h1, Fr.upE (S := (H, fi, fr, t)) (oNe rfl) h2⟩)
theorem C_adNew (hn : Ob S n (oRaw 15)) : BMr (d + 2) gk_J7_init [aR n] S (fun r' S' => r' = none ∧ Ob S' n (oAd [] 17) ∧ Fr1 S S' n 29) := by
  obtain ⟨H, fi, fr, t⟩ := S
  exact BMr.mono (B_adNew (d := d) hn) (fun r S' ⟨h1, h2⟩ => ⟨h1, Fr.upE (S := (H, fi, fr, t)) (oNe rfl) h2⟩)
theorem C_adRL (hn : Ob S n (oAd xs cap)) (hl : 0 < xs.length) : BMr (d + 3) gk_J7_removeLast [aR n] S (fun r' S' => r' = vR (xs.getD (xs.length - 1) none) ∧ Ob S' n (oAd (xs.take (xs.length - 1)) cap) ∧ Fr1 S S' n 0) := by
  obtain ⟨H, fi, fr, t⟩ := S
  exact BMr.mono (B_adRL (d := d) hn hl) (fun r S' ⟨h1, h2⟩ => ⟨h1, Fr.upE (S := (H, fi, fr, t)) (k := 0) (oNe rfl) h2⟩)
theorem C_adRF (hn : Ob S n (oAd xs cap)) (hl : 0 < xs.length) : BMr (d + 3) gk_J7_removeFirst [aR n] S (fun r' S' => r' = vR (xs.getD 0 none) ∧ Ob S' n (oAd (xs.drop 1) cap) ∧ Fr1 S S' n 0) := by
  obtain ⟨H, fi, fr, t⟩ := S
  exact BMr.mono (B_adRF (d := d) hn hl) (fun r S' ⟨h1, h2⟩ => ⟨h1, Fr.upE (S := (H, fi, fr, t)) (k := 0) (oNe rfl) h2⟩)
theorem C_adAdd {v : Nat} (hn : Ob S n (oAd xs cap)) (hv : vOk S.1 (some v)) (hc : cap < 43000) : BMr (d + 4) gk_J7_addLast [aR n, aR v] S (fun r' S' => r' = none ∧ ∃ cap', Ob S' n (oAd (xs ++ [some v]) cap') ∧ Fr1 S S' n (6 * (cap' - cap)) ∧ cap ≤ cap' ∧ (cap' = cap ∨ (cap' ≤ 2 * (xs.length + 1) + 10 ∧ 2 * cap' ≤ 3 * (xs.length + 1) + 70))) := by
  obtain ⟨H, fi, fr, t⟩ := S
  refine BMr.mono (B_adAdd (d := d) hn hv hc) (fun r S' ⟨h1, cap', h2, h3, h4⟩ => ?_)
  obtain ⟨a1, a2⟩ := Fr.upE (S := (H, fi, fr, t)) (b := n) (o := oAd (xs ++ [some v]) cap') (oNe rfl) h2
  exact ⟨h1, cap', a1, a2, h3, h4⟩
theorem C_bsNew (hn : Ob S n (oRaw 17)) : BMr (d + 3) gk_J38_init [aR n] S (fun r' S' => r' = none ∧ Ob S' n (oBs 0) ∧ Fr1 S S' n 13) := by
  obtain ⟨H, fi, fr, t⟩ := S
  exact BMr.mono (B_bsNew (d := d) hn) (fun r S' ⟨h1, h2⟩ => ⟨h1, Fr.upE (S := (H, fi, fr, t)) (oNe rfl) h2⟩)
theorem C_bsSet (hn : Ob S n (oBs w)) (hw : w < 2 ^ 64) (hk : k < 64) (hx : x = k) : BMr (d + 3) gk_J38_set [aR n, aI x] S (fun r' S' => r' = none ∧ Ob S' n (oBs (w ||| 2 ^ k)) ∧ Fr1 S S' n 0) := by
  subst hx
  obtain ⟨H, fi, fr, t⟩ := S
  exact BMr.mono (B_bsSet (d := d) hn hw hk) (fun r S' ⟨h1, h2⟩ => ⟨h1, Fr.upE (S := (H, fi, fr, t)) (k := 0) (oNe rfl) h2⟩)
theorem C_sbAppS (hn : Ob S n (oSb s cap)) (hm : Ob S a (oStr s2)) (hl : s.length + s2.length < 29000) : BMr (d + 5) gk_J9_append_3 [aR n, aR a] S (fun r' S' => r' = vR (some n) ∧ ∃ cap', Ob S' n (oSb (s ++ s2) cap') ∧ Fr1 S S' n (3 * (cap' - cap)) ∧ cap ≤ cap' ∧ (cap' = cap ∨ cap' ≤ 2 * (s ++ s2).length)) := by
  obtain ⟨H, fi, fr, t⟩ := S
  exact BMr.mono (B_sbAppS (d := d) hn hm hl) (fun r S' ⟨h1, h2⟩ => ⟨h1, Sb9.of h2⟩)
theorem C_sbAppI (hn : Ob S n (oSb s cap)) (hx : 0 ≤ x ∧ x < 100) (hl : s.length < 29000) : BMr (d + 5) gk_J9_append_2 [aR n, aI x] S (fun r' S' => r' = vR (some n) ∧ ∃ cap', Ob S' n (oSb (s ++ dg x) cap') ∧ Fr1 S S' n (3 * (cap' - cap)) ∧ cap ≤ cap' ∧ (cap' = cap ∨ cap' ≤ 2 * (s ++ dg x).length)) := by
  obtain ⟨H, fi, fr, t⟩ := S
  exact BMr.mono (B_sbAppI (d := d) hn hx hl) (fun r S' ⟨h1, h2⟩ => ⟨h1, Sb9.of h2⟩)
theorem C_sbSetL (hn : Ob S n (oSb s cap)) : BMr (d + 5) gk_J9_setLength [aR n, aI 0] S (fun r' S' => r' = none ∧ Ob S' n (oSb [] cap) ∧ Fr1 S S' n 0) := by
  obtain ⟨H, fi, fr, t⟩ := S
  exact BMr.mono (B_sbSetL (d := d) hn) (fun r S' ⟨h1, h2⟩ => ⟨h1, Fr.upE (S := (H, fi, fr, t)) (k := 0) (oNe rfl) h2⟩)
theorem C_intVal (hx : 0 ≤ x ∧ x < 100) : BMr (d + 3) gk_J10_valueOf_2 [aI x] S (fun r S' => ∃ y, r = vR (some y) ∧ 1000 ≤ y ∧ S.1 y = oNil ∧ Ob S' y (oStr (dg x)) ∧ Fr0 S S' 30) := by
  obtain ⟨H, fi, fr, t⟩ := S
  exact BMr.mono (B_intVal (d := d) hx) (fun r S' h => Sn.of h)
theorem C_subs {y b e : Int} (hn : Ob S n (oStr s)) (hb : 0 ≤ b ∧ b ≤ e ∧ e ≤ s.length) : BMr (d + 5) gk_J10_substring_2 [aR n, aI b, aI e] S (fun r S' => ∃ q, r = vR (some q) ∧ Ob S' q (oStr (sub9 s b e)) ∧ Fr0 S S' (28 + s.length) ∧ (q = n ∨ q = 260 ∨ 1000 ≤ q)) := by
  obtain ⟨H, fi, fr, t⟩ := S
  refine BMr.mono (B_subs (d := d) hn hb) (fun r S' h => ?_)
  rcases h with ⟨q, h1, h2, rfl, h4⟩ | h
  · exact ⟨q, h1, h2, Fr.rf.w (fun _ _ z => z) (Nat.zero_le _), h4.imp id Or.inl⟩
  · obtain ⟨q, h1, hk, _, h2, h3⟩ := Sn.of h
    exact ⟨q, h1, h2, h3.w (fun _ _ z => z) (by omega), Or.inr (Or.inr hk)⟩
theorem C_subs1 {b : Int} (hn : Ob S n (oStr s)) (hb : 0 ≤ b ∧ b ≤ s.length) : BMr (d + 6) gk_J10_substring [aR n, aI b] S (fun r S' => ∃ q, r = vR (some q) ∧ Ob S' q (oStr (sub9 s b s.length)) ∧ Fr0 S S' (28 + s.length) ∧ (q = n ∨ q = 260 ∨ 1000 ≤ q)) := by
  obtain ⟨H, fi, fr, t⟩ := S
  refine BMr.mono (B_subs1 (d := d) hn hb) (fun r S' h => ?_)
  rcases h with ⟨q, h1, h2, rfl, h4⟩ | h
  · exact ⟨q, h1, h2, Fr.rf.w (fun _ _ z => z) (Nat.zero_le _), h4.imp id Or.inl⟩
  · obtain ⟨q, h1, hk, _, h2, h3⟩ := Sn.of h
    exact ⟨q, h1, h2, h3.w (fun _ _ z => z) (by omega), Or.inr (Or.inr hk)⟩
/-- need -/
theorem C_need {b v : Int} (hb : b = 0 ∨ b = 1) (hv : inR v) : BM (d + 4) gk_X1_need [aI b, aI v] S (fun r S' => if b = 1 then Ret9 S r S' else Thr9 11 78 v S r S') := by
  obtain ⟨H, fi, fr, t⟩ := S
  exact B_need (d := d) hb hv
end JC
section ND
variable {d i a : Nat} {b1 : Int} {M : GMeth} {ls : GL} {st : List GV} {S : BS} {Q : GO → BS → Prop}
/-- a call of need: it goes on, or is refused -/
theorem CW.need {kind : Nat} {x v : Int} (hC : M.2.2.1[i]? = some (60, a, b1)) (hs : gsites[a]? = some (kind, gk_X1_need, 0, 2)) (hin : kind ≠ 4 ∧ kind ≠ 11) (hr : Nat.ble ((st.map gcat).sum) 8 = true) (hx : x = 0 ∨ x = 1) (hv : inR v) (hh : ghnd M.2.2.2 i = none)
    (k : x = 1 → BW (d + 4) M (i + 1) ls st S Q) (kx : x = 0 → ∀ r S', Thr9 11 78 v S r S' → Q r S') : BW (d + 4) M i ls (.inl v :: .inl x :: st) S Q := by
  refine CW.call (as := [aI x, aI v]) (rest := st) hC hs rfl rfl hr (Or.inl rfl) (Or.inl hin) (C_need (d := d) hx hv) (fun r S' hq => ?_) (fun E q S' hq => ?_)
  · rcases hx with rfl | rfl
    · rw [if_neg (by decide)] at hq
      obtain ⟨q, e, -⟩ := hq
      cases e
    · rw [if_pos rfl] at hq
      obtain ⟨e, rfl⟩ := hq
      cases e
      exact k rfl
  · left
    refine ⟨hh, ?_⟩
    rcases hx with rfl | rfl
    · rw [if_neg (by decide)] at hq
      exact kx rfl _ _ hq
    · rw [if_pos rfl] at hq
      obtain ⟨e, _⟩ := hq
      cases e
end ND
