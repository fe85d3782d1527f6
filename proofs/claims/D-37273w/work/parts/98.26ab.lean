-- C
set_option maxRecDepth 100000
/-! LINEORDERS: Ahead's bring -/
section AB
variable {d n m q i a b e y cap c k j pl B p : Nat} {S S' S0 S1 S2 : BS} {K : Nat → Nat} {la la' : Int → Nat} {A A1 : St} {V : Nat → Prop} {v nn b1 x1 : Int} {r : Option Nat} {dq : SDeed} {t : List SLine} {xs ws : List (Option Nat)} {ids : List Int} {G G' : BG}
theorem LO.ls {cap' : Nat} {rows : List (List Int)} (h : LO S K la A B) (hi : i ∈ lIx) (h0 : Ob S (K i) (oAl xs cap)) (hF : Fr1 S S' (K i) (c + 6 * (cap' - cap))) (ht : ListI S' (K i) rows cap') (hc : cap ≤ cap') (hB : B + c ≤ 20000000) : LO S' K la (A.1, A.2.1, setLs A.2.2 i rows) (B + c) := by
  refine ⟨h.1.setList hi h0 hF LoX.k ht hc hB, ?_⟩
  have e : (setLs A.2.2 i rows).2.2.2.2.1 = A.2.2.2.2.2.2.1 := by rw [setLs_r]
  show RowsI S' la (setLs A.2.2 i rows).2.2.2.2.1 A.1
  rw [e]
  exact h.2.f6 hF (W6.one h0 (oNe rfl) rfl)
theorem ListI.cp9 {rows : List (List Int)} (h : ListI S m rows cap) (h0 : Ob S m (oAl xs c)) : c ≤ 300 ∧ StrsIs S xs rows := by
  obtain ⟨xs', h1, h2, h3⟩ := h
  have e1 : oAl xs' cap = oAl xs c := h1.symm.trans h0
  have e2 : cap = c := congrArg (fun o : Obj => o.2.2.2.1) e1
  have e3 : xs' = xs := congrArg (fun o : Obj => o.2.2.1) e1
  subst e2 e3
  exact ⟨h3, h2⟩
/-- what stands behind an order that was refused, and what was -/
theorem L_aheadBring (hL : LB S K la (idsOfL A1.1) A1.2.1 A1.2.2 B) (hH : AhIs S K la m pl A) (hw : WF A) (hpl : pl < 2000000) (hn : A.2.2.2.2.2.2.1 ≤ A1.2.2.2.2.2.2.1) (ho : ∃ ex, A1.2.2.2.1 = A.2.2.2.1 ++ ex) (hB : B + 2000 ≤ 20000000) : BMr (d + 11) gk_X9_bring [aR m] S (fun r S' => r = none ∧ LO S' K la A (B + 1300) ∧ XF K (fun _ => True) S S') := by
  obtain ⟨t1, p1, h1, o1, f1, m1, n1, r1⟩ := A1
  obtain ⟨t, p, hh, o, fi, mk, n, rp⟩ := A
  have hn : n ≤ n1 := hn
  obtain ⟨ex, ho⟩ := ho
  have ho : o1 = o ++ ex := ho
  have hmS := hH.2.1
  have hxS := hL.obx
  obtain ⟨hko, hm, ⟨dm, h23, hD⟩, -⟩ := id hH
  have hD : DeedIs S K la dm (pl, t, p, mk) := hD
  have hdm := hD.2.1
  have hq : DqK n1 (pl, t, p, mk) := ⟨hpl, hw.1, hw.2.1, hw.2.2.1, fun x hx => ⟨⟨(hw.2.2.2.1 x hx).1.1, Int.lt_of_lt_of_le (hw.2.2.2.1 x hx).1.2 hn⟩, (hw.2.2.2.1 x hx).2⟩, hw.2.2.2.2.1⟩
  have hq0 : DqK n (pl, t, p, mk) := ⟨hpl, hw.1, hw.2.1, hw.2.2.1, fun x hx => hw.2.2.2.1 x hx, hw.2.2.2.2.1⟩
  have h40h := hw.2.2.2.2.2.2.1.1
  have h40h : hh.length ≤ 40 := h40h
  have h40f : ∀ k, (fi k).length ≤ 40 := fun k => (hw.2.2.2.2.2.2.2.2 k).1
  have h100 : o.length ≤ 100 := hw.2.2.2.2.2.2.2.1.1
  refine BM.of rfl rfl rfl ?_
  obtain ⟨cap80, xs80, hl80, hs80, hc80⟩ := hL.list (i := 8) (by decide)
  have hs80 : xs80.length = o1.length := hs80.1
  refine BW.alC hl80 (fun h80 => ?_)
  have h300 : o1.length ≤ 300 := by omega
  clear hl80
  (repeat (first | (refine BW.pl rfl rfl ?_) | (refine CW.geti rfl rfl (by assumption) rfl rfl (by assumption) (fun _ => ?_)) | (refine CW.getr rfl rfl (by assumption) rfl rfl (by assumption) ?_)))
  refine CW.c1 rfl rfl (by first | exact Or.inl rfl | exact Or.inr (tagO (by assumption) (by rfl) (by rfl))) (by first | exact Or.inl (by decide) | exact Or.inr ⟨_, rfl, by assumption⟩) rfl (L_deedBring (d := d) hL hD hq (by omega)) ?_
  rintro r S1 ⟨rfl, hL1, hX1⟩
  have hL1 : LO S1 K la (t, p, h1, o1, f1, mk, n1, r1) (B + 760) := hL1
  have hH1 := hH.xf hX1
  obtain ⟨-, hm1, -, ⟨b, xb, kb, h24, hb, hsb⟩, -, -, -, -, h29⟩ := id hH1
  have hsb : StrsIs S1 xb hh := hsb
  have hx1 := hL1.1.obx
  have e7 := hL1.1.e7
  obtain ⟨cap7, xs7, hl7, hs7, hc7⟩ := hL1.1.list (i := 7) (by decide)
  obtain ⟨htt1, _⟩ := hL1.1.tt
  have hbl := hsb.1
  (repeat (first | (refine BW.pl rfl rfl ?_) | (refine CW.geti rfl rfl (by assumption) rfl rfl (by assumption) (fun _ => ?_)) | (refine CW.getr rfl rfl (by assumption) rfl rfl (by assumption) ?_)))
  refine CW.c2 rfl rfl (by first | exact Or.inl rfl | exact Or.inr (tagO (by assumption) (by rfl) (by rfl))) (by first | exact Or.inl (by decide) | exact Or.inr ⟨_, rfl, by assumption⟩) rfl (L_lay (d := d + 3) hl7 hb hsb (by omega) (by omega) (by omega)) ?_
  rintro r S2 ⟨rfl, cap', hl72, hF2, hc2, hc2'⟩
  have hL2 : LO S2 K la (t, p, hh, o1, f1, mk, n1, r1) (B + 760 + (1 + xb.length)) := LO.ls (i := 7) hL1 (by decide) hl7 hF2 ⟨xb, hl72, hsb.fr hF2 (NoS.one hl7 rfl), by omega⟩ hc2 (by omega)
  have hX12 : XF K (fun _ => True) S1 S2 := XF.rf.f1 hF2 (fun _ => hL1.1.wk (by decide))
  have hX2 := hX1.tr hX12
  (iterate 2 (refine BW.pl rfl rfl ?_))
  -- the out, and the rest
  have outs : ∀ (N : Nat) (S3 : BS) (f3 : Nat → List (List Int)) (rows : List (List Int)) (B3 : Nat), rows = o ++ ex.take N → N ≤ ex.length → (∀ k, k < 4 → f3 k = fi k) → LO S3 K la (t, p, hh, rows, f3, mk, n1, r1) B3 → B3 + N ≤ B + 1300 → XF K (fun _ => True) S S3 → BW (d + 10) gm_X9_bring 27 [some (aR m), some (aI 4)] [] S3 (fun r S' => ∃ v, r = .inl v ∧ v = none ∧ LO S' K la (t, p, hh, o, fi, mk, n, rp) (B + 1300) ∧ XF K (fun _ => True) S S') := by
    intro N
    induction N with
    | zero =>
      intro S3 f3 rows B3 hr hN hf hL3 hB3 hX3
      rw [List.take_zero, List.append_nil] at hr
      subst hr
      have hH3 := hH.xf hX3
      obtain ⟨-, hm3, -, -, -, h26, h27, h28, h29⟩ := id hH3
      have h26 : Fi S3 26 m rows.length := h26
      have h27 : Fi S3 27 m n := h27
      have h28 : Fi S3 28 m (b2i rp) := h28
      have hx3 := hL3.1.obx
      have e8 := hL3.1.e8
      obtain ⟨cap8, xs8, hl8, hs8, hc8⟩ := hL3.1.list (i := 8) (by decide)
      have hs8l : xs8.length = rows.length := hs8.1
      have hb2 : b2i rp = 0 ∨ b2i rp = 1 := by cases rp <;> decide
      (repeat (first | (refine BW.pl rfl rfl ?_) | (refine CW.geti rfl rfl (by assumption) rfl rfl (by assumption) (fun _ => ?_)) | (refine CW.getr rfl rfl (by assumption) rfl rfl (by assumption) ?_)))
      refine CW.e1 rfl rfl (by first | exact Or.inl rfl | exact Or.inr (tagO (by assumption) (by rfl) (by rfl))) (by first | exact Or.inl (by decide) | exact Or.inr ⟨_, rfl, by assumption⟩) rfl (B_alSize hl8) ?_
      rw [hs8l]
      (repeat (first | (refine BW.pl rfl rfl ?_) | (refine CW.geti rfl rfl (by assumption) rfl rfl (by assumption) (fun _ => ?_)) | (refine CW.getr rfl rfl (by assumption) rfl rfl (by assumption) ?_)))
      refine BW.br rfl rfl (by first | omega | decide | (constructor <;> first | omega | decide)) (fun w => ?_) (fun w => by first | (exfalso; omega) | exact absurd w (by decide))
      (repeat (first | (refine BW.pl rfl rfl ?_) | (refine CW.geti rfl rfl (by assumption) rfl rfl (by assumption) (fun _ => ?_)) | (refine CW.getr rfl rfl (by assumption) rfl rfl (by assumption) ?_)))
      first | (refine CW.putr rfl rfl (by assumption) rfl (by decide) (fun S4 hP4 h44 => ?_)) | (refine CW.puti rfl (by assumption) rfl (by decide) (by first | exact Or.inl ⟨rfl, by first | omega | decide | (constructor <;> first | omega | decide)⟩ | exact Or.inr (Or.inl ⟨rfl, by first | omega | decide | (constructor <;> first | omega | decide)⟩) | exact Or.inr (Or.inr (Or.inl ⟨rfl, by first | omega | decide | (constructor <;> first | omega | decide)⟩)) | exact Or.inr (Or.inr (Or.inr ⟨rfl, by first | omega | decide | (constructor <;> first | omega | decide)⟩))) (fun S4 hP4 h44 => ?_))
      have hL4 : LB S4 K la (idsOfL t) p (hh, rows, f3, mk, n, r1) B3 := hL3.1.puG hP4 h44 ⟨hw.2.2.2.2.2.1, hn⟩ (fun x hx => hq0.idR hx) (fun j _ x hx => hq0.mk hx)
      have hX34 : XF K (fun _ => True) S3 S4 := XF.rf.pu1 hP4 (by decide)
      have hm4 := hm3.pu hP4 trivial
      have hkm : m ≠ K 1 := hko 1 (by decide)
      have h284 := h28.pu hP4 (Or.inr hkm)
      have h294 := h29.pu hP4 (Or.inr hkm)
      have hx4 := hL4.obx
      have hR4 : RowsI S4 la n t := fun z hz => by
        obtain ⟨_, g2, r, g3, g4⟩ := hL3.2 z hz
        exact ⟨(hq0.2.2.2.2.1 z hz).1, g2.pu hP4 trivial, r, g3.pu hP4 (Or.inl (by decide)), g4.pu hP4 trivial⟩
      (repeat (first | (refine BW.pl rfl rfl ?_) | (refine CW.geti rfl rfl (by assumption) rfl rfl (by assumption) (fun _ => ?_)) | (refine CW.getr rfl rfl (by assumption) rfl rfl (by assumption) ?_)))
      first | (refine CW.putr rfl rfl (by assumption) rfl (by decide) (fun S5 hP5 h145 => ?_)) | (refine CW.puti rfl (by assumption) rfl (by decide) (by first | exact Or.inl ⟨rfl, by first | omega | decide | (constructor <;> first | omega | decide)⟩ | exact Or.inr (Or.inl ⟨rfl, by first | omega | decide | (constructor <;> first | omega | decide)⟩) | exact Or.inr (Or.inr (Or.inl ⟨rfl, by first | omega | decide | (constructor <;> first | omega | decide)⟩)) | exact Or.inr (Or.inr (Or.inr ⟨rfl, by first | omega | decide | (constructor <;> first | omega | decide)⟩))) (fun S5 hP5 h145 => ?_))
      have hL5 : LB S5 K la (idsOfL t) p (hh, rows, f3, mk, n, rp) B3 := hL4.puR hP5 h145 rfl
      have hX45 : XF K (fun _ => True) S4 S5 := XF.rf.pu1 hP5 (by decide)
      exact BW.ret rfl rfl ⟨_, rfl, rfl, ⟨(hL5.le (B' := B + 1300) (by omega) (by omega)).ext rfl rfl hf (fun _ _ => rfl) rfl, hR4.f6 hP5.fr (W6.one hx4 (ownNe rfl) rfl)⟩, (hX3.tr hX34).tr hX45⟩
    | succ N ih =>
      intro S3 f3 rows B3 hr hN hf hL3 hB3 hX3
      have hH3 := hH.xf hX3
      obtain ⟨-, hm3, -, -, -, h26, -, -, h29⟩ := id hH3
      have h26 : Fi S3 26 m o.length := h26
      have hx3 := hL3.1.obx
      have e8 := hL3.1.e8
      obtain ⟨cap8, xs8, hl8, hs8, hc8⟩ := hL3.1.list (i := 8) (by decide)
      have hs8 : StrsIs S3 xs8 rows := hs8
      have hrl : rows.length = o.length + (N + 1) := by rw [hr, List.length_append, List.length_take]; omega
      have hs8l : xs8.length = o.length + (N + 1) := by rw [hs8.1, hrl]
      obtain ⟨htt3, _⟩ := hL3.1.tt
      (repeat (first | (refine BW.pl rfl rfl ?_) | (refine CW.geti rfl rfl (by assumption) rfl rfl (by assumption) (fun _ => ?_)) | (refine CW.getr rfl rfl (by assumption) rfl rfl (by assumption) ?_)))
      refine CW.e1 rfl rfl (by first | exact Or.inl rfl | exact Or.inr (tagO (by assumption) (by rfl) (by rfl))) (by first | exact Or.inl (by decide) | exact Or.inr ⟨_, rfl, by assumption⟩) rfl (B_alSize hl8) ?_
      rw [hs8l]
      (repeat (first | (refine BW.pl rfl rfl ?_) | (refine CW.geti rfl rfl (by assumption) rfl rfl (by assumption) (fun _ => ?_)) | (refine CW.getr rfl rfl (by assumption) rfl rfl (by assumption) ?_)))
      refine BW.br rfl rfl (by first | omega | decide | (constructor <;> first | omega | decide)) (fun w => by first | (exfalso; omega) | exact absurd w (by decide)) (fun w => ?_)
      (repeat (first | (refine BW.pl rfl rfl ?_) | (refine CW.geti rfl rfl (by assumption) rfl rfl (by assumption) (fun _ => ?_)) | (refine CW.getr rfl rfl (by assumption) rfl rfl (by assumption) ?_)))
      refine CW.e1 rfl rfl (by first | exact Or.inl rfl | exact Or.inr (tagO (by assumption) (by rfl) (by rfl))) (by first | exact Or.inl (by decide) | exact Or.inr ⟨_, rfl, by assumption⟩) rfl (B_alSize hl8) ?_
      rw [hs8l]
      (repeat (refine BW.pl rfl rfl ?_))
      refine CW.c2 rfl rfl (by first | exact Or.inl rfl | exact Or.inr (tagO (by assumption) (by rfl) (by rfl))) (by first | exact Or.inl (by decide) | exact Or.inr ⟨_, rfl, by assumption⟩) rfl (C_alRem hl8 (by omega) (by omega) (by omega)) ?_
      rintro r S4 ⟨⟨rq, rfl⟩, hl84, hF4⟩
      have er : rows.take (rows.length - 1) = o ++ ex.take N := by
        rw [hr, List.length_append, List.length_take, List.take_append, List.take_of_length_le (by omega), List.take_take]
        congr 2
        omega
      have hL4 : LO S4 K la (t, p, hh, rows.take (rows.length - 1), f3, mk, n1, r1) (B3 + 1) := LO.ls (i := 8) (cap' := cap8) (c := 1) hL3 (by decide) hl8 (by rw [Nat.sub_self]; exact hF4) ⟨_, hl84, by
        have := (hs8.fr hF4 (NoS.one hl8 rfl)).take (rows.length - 1) (Nat.sub_le _ _)
        rw [hs8.1]
        exact this, hc8⟩ (Nat.le_refl _) (by omega)
      have hX34 : XF K (fun _ => True) S3 S4 := XF.rf.f1 hF4 (fun _ => hL3.1.wk (by decide))
      (iterate 2 (refine BW.pl rfl rfl ?_))
      exact ih S4 f3 _ (B3 + 1) er (by omega) hf hL4 (by omega) (hX3.tr hX34)
  -- the files
  have files : ∀ (N j : Nat) (S3 : BS) (f3 : Nat → List (List Int)), j + N = 4 → (∀ k, k < j → f3 k = fi k) → LO S3 K la (t, p, hh, o1, f3, mk, n1, r1) (B + 760 + 41 + 41 * j) → XF K (fun _ => True) S S3 → BW (d + 10) gm_X9_bring 11 [some (aR m), some (aI j)] [] S3 (fun r S' => ∃ v, r = .inl v ∧ v = none ∧ LO S' K la (t, p, hh, o, fi, mk, n, rp) (B + 1300) ∧ XF K (fun _ => True) S S') := by
    intro N
    induction N with
    | zero =>
      intro j S3 f3 hj hf hL3 hX3
      have hj4 : j = 4 := by omega
      subst hj4
      (repeat (refine BW.pl rfl rfl ?_))
      refine BW.br rfl rfl (by first | omega | decide | (constructor <;> first | omega | decide)) (fun w => ?_) (fun w => by first | (exfalso; omega) | exact absurd w (by decide))
      exact outs ex.length S3 f3 o1 _ (by rw [List.take_length]; exact ho) (Nat.le_refl _) hf hL3 (by
        have : o1.length = o.length + ex.length := by rw [ho, List.length_append]
        omega) hX3
    | succ N ih =>
      intro j S3 f3 hj hf hL3 hX3
      have hj4 : j < 4 := by omega
      have ej : ((j : Nat) : Int).toNat = j := by omega
      have hH3 := hH.xf hX3
      obtain ⟨-, hm3, -, -, ⟨w, ws, kw, h25, hw3, hfa⟩, -, -, -, h29⟩ := id hH3
      have hfa : FilA S3 K fi ws 4 := hfa
      have hx3 := hL3.1.obx
      have e9 := hL3.1.e9
      obtain ⟨cap9, h9⟩ := K_files hL3
      obtain ⟨capf, xsf, hlf, hsf, hcf⟩ := K_file hL3 hj4
      obtain ⟨wk, xk, g1, g2, g3, g4⟩ := hfa.2 j hj4
      have hgj : ws.getD ((j : Int)).toNat none = some wk := by rw [ej]; exact g1
      have hxk := g4.1
      have hfj := h40f j
      obtain ⟨htt3, _⟩ := hL3.1.tt
      (repeat (refine BW.pl rfl rfl ?_))
      refine BW.br rfl rfl (by first | omega | decide | (constructor <;> first | omega | decide)) (fun z => by first | (exfalso; omega) | exact absurd z (by decide)) (fun z => ?_)
      (repeat (first | (refine BW.pl rfl rfl ?_) | (refine CW.geti rfl rfl (by assumption) rfl rfl (by assumption) (fun _ => ?_)) | (refine CW.getr rfl rfl (by assumption) rfl rfl (by assumption) ?_)))
      refine CW.e2 rfl rfl (by first | exact Or.inl rfl | exact Or.inr (tagO (by assumption) (by rfl) (by rfl))) (by first | exact Or.inl (by decide) | exact Or.inr ⟨_, rfl, by assumption⟩) rfl (C_alGet (k := j) h9 (show j < 4 by omega) (K_get hj4) rfl) ?_
      refine CW.castS rfl hlf rfl rfl rfl ?_
      (repeat (first | (refine BW.pl rfl rfl ?_) | (refine CW.geti rfl rfl (by assumption) rfl rfl (by assumption) (fun _ => ?_)) | (refine CW.getr rfl rfl (by assumption) rfl rfl (by assumption) ?_)))
      refine CW.aald rfl hw3 ⟨by omega, by rw [hfa.1]; omega⟩ ?_
      rw [hgj]
      refine CW.c2 rfl rfl (by first | exact Or.inl rfl | exact Or.inr (tagO (by assumption) (by rfl) (by rfl))) (by first | exact Or.inl (by decide) | exact Or.inr ⟨_, rfl, by assumption⟩) rfl (L_lay (d := d + 3) hlf g3 g4 (by omega) (by omega) (by omega)) ?_
      rintro r S4 ⟨rfl, cap', hl4, hF4, hc4, hc4'⟩
      have hi20 : 20 + j ∈ lIx := by unfold lIx; simp; omega
      have hL4 : LO S4 K la (t, p, hh, o1, fup f3 j (fi j), mk, n1, r1) (B + 760 + 41 + 41 * j + (1 + xk.length)) := by
        have h9 := LO.ls (i := 20 + j) (rows := fi j) hL3 hi20 hlf hF4 ⟨xk, hl4, g4.fr hF4 (NoS.one hlf rfl), by omega⟩ hc4 (by omega)
        unfold setLs at h9
        rw [if_neg (by omega), if_neg (by omega), show 20 + j - 20 = j by omega] at h9
        exact h9
      have hX34 : XF K (fun _ => True) S3 S4 := XF.rf.f1 hF4 (fun _ => hL3.1.wk (by unfold kCh; simp; omega))
      (iterate 2 (refine BW.pl rfl rfl ?_))
      exact ih (j + 1) S4 (fup f3 j (fi j)) (by omega) (fun k hk => by
        unfold fup
        by_cases z : k = j
        · rw [if_pos z, z]
        · rw [if_neg z]; exact hf k (by omega)) (hL4.le (by omega) (by omega)) (hX3.tr hX34)
  exact files 4 0 S2 f1 rfl (fun k hk => absurd hk (Nat.not_lt_zero _)) (hL2.le (by omega) (by omega)) hX2
end AB
