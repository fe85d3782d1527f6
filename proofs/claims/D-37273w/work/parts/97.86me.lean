-- C
set_option maxRecDepth 100000
/-! LINEORDERS: rows in arrays and lists -/
section MG
variable {d n m q i a y cap p B c k f e l : Nat} {S S' S0 S1 S2 : BS} {K : Nat → Nat} {la : Int → Nat} {ids : List Int} {G : BG} {A : St} {V W : Nat → Prop} {s z : List Int} {x v w : Int} {t : List SLine} {mk mk' : Nat → Option Int} {xs ys : List (Option Nat)} {rows : List (List Int)}
/-- an array that is filled up to a place -/
def filA (xs : List (Option Nat)) (j : Nat) : List (Option Nat) := xs.take j ++ List.replicate (xs.length - j) none
theorem filA_len {j : Nat} (h : j ≤ xs.length) : (filA xs j).length = xs.length := by unfold filA; rw [List.length_append, List.length_take, List.length_replicate]; omega
theorem filA_0 : filA xs 0 = List.replicate xs.length none := by unfold filA; simp
theorem filA_end : filA xs xs.length = xs := by unfold filA; simp
theorem filA_set {j : Nat} (h : j < xs.length) : (filA xs j).set j (xs.getD j none) = filA xs (j + 1) := by
  unfold filA
  have e1 : (xs.take j).length = j := by rw [List.length_take]; omega
  have e2 : List.replicate (xs.length - j) (none : Option Nat) = none :: List.replicate (xs.length - (j + 1)) none := by
    rw [show xs.length - j = (xs.length - (j + 1)) + 1 by omega]; rfl
  rw [List.set_append_right _ _ (by omega), e1, Nat.sub_self, e2, List.set_cons_zero, List.take_succ_eq_append_getElem h, List.append_assoc, List.getD_eq_getElem?_getD, List.getElem?_eq_getElem h]
  rfl
theorem L_rowsOf (hn : Ob S n (oAl xs cap)) (hs : StrsIs S xs rows) (hl : xs.length < 60000) : BMr (d + 4) gk_X1_rowsOf [aR n] S (fun r S' => ∃ q, r = vR (some q) ∧ S.1 q = oNil ∧ 1000 ≤ q ∧ Ob S' q (oRa 105 xs) ∧ Fr0 S S' (12 + xs.length)) := by
  refine BM.of rfl rfl rfl ?_
  (repeat (refine BW.pl rfl rfl ?_))
  refine CW.e1 rfl rfl (by first | exact Or.inl rfl | exact Or.inr (tagO (by assumption) (by rfl) (by rfl))) (by first | exact Or.inl (by decide) | exact Or.inr ⟨_, rfl, by assumption⟩) rfl (B_alSize hn) ?_
  refine CW.arrR rfl rfl rfl ⟨by omega, by omega⟩ (fun q S1 hN => ?_)
  have hq := hN.ob
  have e0 : ((xs.length : Int)).toNat = xs.length := by omega
  rw [e0] at hq
  have hn1 := hN.fr.ob hn (oNe rfl)
  have hs1 := hs.fr hN.fr NoS.no
  have hqz := hN.nil
  have hF1 : Fr S S1 (fun m => m = q) (12 + xs.length) := by
    have := hN.fr
    rw [e0] at this
    exact this.w (fun _ _ z => z.elim) (Nat.le_refl _)
  have loop : ∀ (n2 j : Nat) (S2 : BS), j + n2 = xs.length → Ob S2 q (oRa 105 (filA xs j)) → Ob S2 n (oAl xs cap) → StrsIs S2 xs rows → Fr S S2 (fun m => m = q) (12 + xs.length) → BW (d + 3) gm_X1_rowsOf 6 [some (aR n), some (aR q), some (aI j)] [] S2 (fun r S' => ∃ v, r = .inl v ∧ ∃ q, v = vR (some q) ∧ S.1 q = oNil ∧ 1000 ≤ q ∧ Ob S' q (oRa 105 xs) ∧ Fr0 S S' (12 + xs.length)) := by
    intro n2
    induction n2 with
    | zero =>
      intro j S2 hj hq2 hn2 hs2 hF2
      obtain rfl : j = xs.length := by omega
      rw [filA_end] at hq2
      (repeat (refine BW.pl rfl rfl ?_))
      refine CW.alenR rfl hq2 (fun _ => ?_)
      refine BW.br rfl rfl (by first | omega | decide | (constructor <;> first | omega | decide)) (fun w => ?_) (fun w => by first | (exfalso; omega) | exact absurd w (by decide))
      (repeat (refine BW.pl rfl rfl ?_))
      exact BW.aret rfl rfl ⟨_, rfl, q, rfl, hqz, hN.1, hq2, hF2.w (fun m hm z => hm (by rw [z]; exact hqz)) (Nat.le_refl _)⟩
    | succ n2 ih =>
      intro j S2 hj hq2 hn2 hs2 hF2
      have hjl : j < xs.length := by omega
      have hfl := filA_len (xs := xs) (j := j) (by omega)
      obtain ⟨⟨yy, hy1, hy2⟩, _⟩ := hs2.2 j (by rw [← hs2.1]; exact hjl)
      (repeat (refine BW.pl rfl rfl ?_))
      refine CW.alenR rfl hq2 (fun _ => ?_)
      refine BW.br rfl rfl (by first | omega | decide | (constructor <;> first | omega | decide)) (fun w => by first | (exfalso; omega) | exact absurd w (by decide)) (fun w => ?_)
      (repeat (refine BW.pl rfl rfl ?_))
      refine CW.e2 rfl rfl (by first | exact Or.inl rfl | exact Or.inr (tagO (by assumption) (by rfl) (by rfl))) (by first | exact Or.inl (by decide) | exact Or.inr ⟨_, rfl, by assumption⟩) rfl (C_alGet hn2 hjl hy1 rfl) ?_
      refine CW.castS rfl hy2 rfl rfl rfl ?_
      refine CW.aast rfl hq2 ⟨by omega, by omega⟩ (Or.inr ⟨yy, rfl, by rw [show S2.1 yy = _ from hy2]; rfl, Or.inl (by rw [show S2.1 yy = _ from hy2]; rfl)⟩) (fun S3 hq3 hF3 => ?_)
      have ej : ((j : Nat) : Int).toNat = j := by omega
      rw [ej, ← hy1, filA_set hjl] at hq3
      (iterate 2 (refine BW.pl rfl rfl ?_))
      exact ih (j + 1) S3 (by omega) hq3 (hn2.fr hF3 ⟨oNe rfl, hn2.ne hq2 (oNe rfl)⟩) (hs2.fr hF3 (NoS.one hq2 rfl)) ((hF2.tr hF3 (fun _ _ z => z)).w (fun _ _ z => z) (Nat.le_refl _))
  (iterate 3 (refine BW.pl rfl rfl ?_))
  exact loop xs.length 0 S1 (Nat.zero_add _) (by rw [filA_0]; exact hq) hn1 hs1 hF1
theorem L_lay (hn : Ob S n (oAl xs cap)) (ha : Ob S a (oRa 105 ys)) (hs : StrsIs S ys rows) (hl : ys.length < 30000) (ht : S.2.2.2 < 900000000) (hcp : cap < 1000) : BMr (d + 7) gk_X1_lay [aR n, aR a] S (fun r S' => r = none ∧ ∃ cap', Ob S' n (oAl ys cap') ∧ Fr1 S S' n (1 + ys.length + 6 * (cap' - cap)) ∧ cap ≤ cap' ∧ (cap' = cap ∨ cap' ≤ 2 * ys.length + 10)) := by
  refine BM.of rfl rfl rfl ?_
  (repeat (refine BW.pl rfl rfl ?_))
  refine CW.c1 rfl rfl (by first | exact Or.inl rfl | exact Or.inr (tagO (by assumption) (by rfl) (by rfl))) (by first | exact Or.inl (by decide) | exact Or.inr ⟨_, rfl, by assumption⟩) rfl (C_alClr hn (by omega)) ?_
  rintro r S1 ⟨rfl, hn1, hF1⟩
  have han := ha.ne hn (oNe rfl)
  have ha1 := ha.fr hF1 ⟨oNe rfl, han⟩
  have hs1 := hs.fr hF1 (NoS.one hn rfl)
  have loop : ∀ (n2 j : Nat) (S2 : BS) (cp : Nat), j + n2 = ys.length → Ob S2 n (oAl (ys.take j) cp) → Ob S2 a (oRa 105 ys) → StrsIs S2 ys rows → Fr1 S S2 n (1 + j + 6 * (cp - cap)) → cap ≤ cp → (cp = cap ∨ cp ≤ 2 * j + 10) → BW (d + 6) gm_X1_lay 4 [some (aR n), some (aR a), some (aI j)] [] S2 (fun r S' => ∃ v, r = .inl v ∧ (v = none ∧ ∃ cap', Ob S' n (oAl ys cap') ∧ Fr1 S S' n (1 + ys.length + 6 * (cap' - cap)) ∧ cap ≤ cap' ∧ (cap' = cap ∨ cap' ≤ 2 * ys.length + 10))) := by
    intro n2
    induction n2 with
    | zero =>
      intro j S2 cp hj hn2 ha2 hs2 hF2 hc1 hc2
      obtain rfl : j = ys.length := by omega
      (repeat (refine BW.pl rfl rfl ?_))
      refine CW.alenR rfl ha2 (fun _ => ?_)
      refine BW.br rfl rfl (by first | omega | decide | (constructor <;> first | omega | decide)) (fun w => ?_) (fun w => by first | (exfalso; omega) | exact absurd w (by decide))
      exact BW.ret rfl rfl ⟨_, rfl, rfl, cp, by rw [List.take_length] at hn2; exact hn2, hF2, hc1, hc2⟩
    | succ n2 ih =>
      intro j S2 cp hj hn2 ha2 hs2 hF2 hc1 hc2
      have hjl : j < ys.length := by omega
      obtain ⟨⟨yy, hy1, hy2⟩, _⟩ := hs2.2 j (by rw [← hs2.1]; exact hjl)
      have ht2 := hF2.2.2
      have etl : (ys.take j).length = j := by rw [List.length_take]; omega
      have et : ys.take j ++ [some yy] = ys.take (j + 1) := by
        rw [List.take_succ_eq_append_getElem hjl]
        rw [List.getD_eq_getElem?_getD, List.getElem?_eq_getElem hjl] at hy1
        have hy1 : ys[j] = some yy := hy1
        rw [hy1]
      (repeat (refine BW.pl rfl rfl ?_))
      refine CW.alenR rfl ha2 (fun _ => ?_)
      refine BW.br rfl rfl (by first | omega | decide | (constructor <;> first | omega | decide)) (fun w => by first | (exfalso; omega) | exact absurd w (by decide)) (fun w => ?_)
      (repeat (refine BW.pl rfl rfl ?_))
      refine CW.aald rfl ha2 ⟨by omega, by omega⟩ ?_
      have ej : ((j : Nat) : Int).toNat = j := by omega
      rw [ej, hy1]
      refine CW.c2 rfl rfl (by first | exact Or.inl rfl | exact Or.inr (tagO (by assumption) (by rfl) (by rfl))) (by first | exact Or.inl (by decide) | exact Or.inr ⟨_, rfl, by assumption⟩) rfl (C_alAdd hn2 (vOk_o hy2 rfl) (by omega) (by omega)) ?_
      rintro r S3 ⟨rfl, cp', hn3, hF3, hc3, hc4⟩
      rw [et] at hn3
      (iterate 3 (refine BW.pl rfl rfl ?_))
      exact ih (j + 1) S3 cp' (by omega) hn3 (ha2.fr hF3 ⟨oNe rfl, ha2.ne hn2 (oNe rfl)⟩) (hs2.fr hF3 (NoS.one hn2 rfl)) ((hF2.tr hF3 (fun _ _ z => z)).w (fun _ _ z => z) (by omega)) (by omega) (by omega)
  (iterate 2 (refine BW.pl rfl rfl ?_))
  exact loop ys.length 0 S1 cap (Nat.zero_add _) hn1 ha1 hs1 (hF1.w (fun _ _ z => z) (by omega)) (Nat.le_refl _) (Or.inl rfl)
/-- signs of a row are appended to what is made -/
theorem L_makeSigns (hx : Ob S n (oOwn 1)) (h15 : Fe S 15 n (some m)) (hm : Ob S m (oSb z cap)) (hy : Ob S y (oStr s)) (hf : f ≤ e) (he : e ≤ s.length) (hl : z.length + (e - f) < 29000) (hv : v = f) (hw : w = e) : BMr (d + 6) gk_X1_makeSigns [aR n, aR y, aI v, aI w] S (fun r S' => r = none ∧ ∃ cap', Ob S' m (oSb (z ++ (s.drop f).take (e - f)) cap') ∧ Fr1 S S' m (3 * (cap' - cap)) ∧ cap ≤ cap' ∧ (cap' = cap ∨ cap' ≤ 2 * (z.length + (e - f)))) := by
  subst hv hw
  refine BM.of rfl rfl rfl ?_
  refine BW.strL hy (fun hsl => ?_)
  have loop : ∀ (n2 j : Nat) (S2 : BS) (cp : Nat), f + j + n2 = e → Ob S2 n (oOwn 1) → Fe S2 15 n (some m) → Ob S2 m (oSb (z ++ (s.drop f).take j) cp) → Ob S2 y (oStr s) → Fr1 S S2 m (3 * (cp - cap)) → cap ≤ cp → (cp = cap ∨ cp ≤ 2 * (z.length + j)) → BW (d + 5) gm_X1_makeSigns 2 [some (aR n), some (aR y), some (aI f), some (aI e), some (aI ((f + j : Nat) : Int))] [] S2 (fun r S' => ∃ v, r = .inl v ∧ (v = none ∧ ∃ cap', Ob S' m (oSb (z ++ (s.drop f).take (e - f)) cap') ∧ Fr1 S S' m (3 * (cap' - cap)) ∧ cap ≤ cap' ∧ (cap' = cap ∨ cap' ≤ 2 * (z.length + (e - f))))) := by
    intro n2
    induction n2 with
    | zero =>
      intro j S2 cp hj hx2 h2 hm2 hy2 hF2 hc1 hc2
      obtain rfl : j = e - f := by omega
      (repeat (refine BW.pl rfl rfl ?_))
      refine BW.br rfl rfl (by first | omega | decide | (constructor <;> first | omega | decide)) (fun w => ?_) (fun w => by first | (exfalso; omega) | exact absurd w (by decide))
      exact BW.ret rfl rfl ⟨_, rfl, rfl, cp, hm2, hF2, hc1, hc2⟩
    | succ n2 ih =>
      intro j S2 cp hj hx2 h2 hm2 hy2 hF2 hc1 hc2
      have hkl : f + j < s.length := by omega
      have hch : s.getD (f + j) 0 ∈ s := by rw [List.getD_eq_getElem?_getD, List.getElem?_eq_getElem hkl]; exact List.getElem_mem hkl
      have hcR := hsl.2 _ hch
      have etl : ((s.drop f).take j).length = j := by rw [List.length_take, List.length_drop]; omega
      have et : (s.drop f).take j ++ [s.getD (f + j) 0] = (s.drop f).take (j + 1) := by
        rw [List.take_succ_eq_append_getElem (by rw [List.length_drop]; omega), List.getElem_drop, List.getD_eq_getElem?_getD, List.getElem?_eq_getElem hkl]
        rfl
      (repeat (refine BW.pl rfl rfl ?_))
      refine BW.br rfl rfl (by first | omega | decide | (constructor <;> first | omega | decide)) (fun w => by first | (exfalso; omega) | exact absurd w (by decide)) (fun w => ?_)
      (repeat (first | (refine BW.pl rfl rfl ?_) | (refine CW.geti rfl rfl (by assumption) rfl rfl (by assumption) (fun _ => ?_)) | (refine CW.getr rfl rfl (by assumption) rfl rfl (by assumption) ?_)))
      refine CW.e2 rfl rfl (by first | exact Or.inl rfl | exact Or.inr (tagO (by assumption) (by rfl) (by rfl))) (by first | exact Or.inl (by decide) | exact Or.inr ⟨_, rfl, by assumption⟩) rfl (B_schar hy2 ⟨by omega, by omega⟩) ?_
      have ej : ((f + j : Nat) : Int).toNat = f + j := by omega
      rw [ej]
      refine CW.c2 rfl rfl (by first | exact Or.inl rfl | exact Or.inr (tagO (by assumption) (by rfl) (by rfl))) (by first | exact Or.inl (by decide) | exact Or.inr ⟨_, rfl, by assumption⟩) rfl (C_sbAppC hm2 hcR (by rw [List.length_append, etl]; omega)) ?_
      rintro r S3 ⟨rfl, cp', hm3, hF3, hc3, hc4⟩
      rw [List.append_assoc, et] at hm3
      (iterate 3 (refine BW.pl rfl rfl ?_))
      exact ih (j + 1) S3 cp' (by omega) (hx2.fr hF3 ⟨oNe rfl, hx2.ne hm2 (oNe rfl)⟩) (h2.fr hF3 ⟨⟨hx2.old (oNe rfl), by decide⟩, hx2.ne hm2 (oNe rfl)⟩) hm3 (hy2.fr hF3 ⟨oNe rfl, hy2.ne hm2 (oNe rfl)⟩) ((hF2.tr hF3 (fun _ _ z => z)).w (fun _ _ z => z) (by omega)) (by omega) (by rw [List.length_append, List.length_append, etl] at hc4; simp at hc4; omega)
  (iterate 2 (refine BW.pl rfl rfl ?_))
  exact loop (e - f) 0 S cap (by omega) hx h15 (by simp; exact hm) hy (Fr.rf.w (fun _ _ z => z) (Nat.zero_le _)) (Nat.le_refl _) (Or.inl rfl)
end MG
