-- C
set_option maxRecDepth 100000
/-! LINEORDERS: nextHolding, spot, numberOfAddress -/
section NH
variable {d n m q i a y cap c1 c2 cap' p B c k f e l u w yp pp it lr : Nat} {S S' S0 S1 S2 : BS} {K : Nat → Nat} {la : Int → Nat} {G : BG} {A : St} {F V : Nat → Prop} {s s2 z z2 row : List Int} {v nn b1 x1 x2 x3 : Int} {dn rs t : List SLine} {x : SLine} {r : Option Nat} {Q : GO → BS → Prop} {od : SOrd0} {pt : SPat} {b g : MG} {o : Obj} {zz : Prop} {M : GMeth} {ls : GL} {st : List GV} {bk : Bool} {ad : SAdr}
theorem BW.binV (hC : M.2.2.1[i]? = some (18, a, b1)) (h : gbin a x1 x2 = some x3) (kk : BW d M (i + 1) ls (.inl x3 :: st) S Q) : BW d M i ls (.inl x2 :: .inl x1 :: st) S Q := fun g hR => GW.bin hC h (kk g hR)
theorem BW.remV (hC : M.2.2.1[i]? = some (18, 4, b1)) (h1 : 0 ≤ x1 ∧ x1 < 2147483648) (h2 : 0 < x2 ∧ x2 < 2147483648) (h : x1 % x2 = x3) (kk : BW d M (i + 1) ls (.inl x3 :: st) S Q) : BW d M i ls (.inl x2 :: .inl x1 :: st) S Q := by
  subst h
  refine BW.binV hC ?_ kk
  show (if (0 ≤ x1 ∧ x1 < 2147483648) ∧ 0 < x2 ∧ x2 < 2147483648 then some (x1 % x2) else none) = _
  rw [if_pos ⟨h1, h2⟩]
theorem LO.fnd (hL : LO S K la A B) (hK : ∀ m, F m → KoM K m) (hS : Scr S S') (hR : FnR S F S') : LO S' K la A B ∧ XF K V S S' := by
  refine ⟨hL.fr (c := 0) hR (fun m hm hw => ⟨hK m hw.1, ?_⟩) hL.1.tt.2, XF.rf.scr hS⟩
  rcases hw.2 with z | z
  · exact ⟨fun y => by rw [y] at z; exact absurd (show (11 : Nat) = 9 from z) (by decide), fun y => by rw [y] at z; exact absurd z (by decide)⟩
  · rw [z]
    exact ⟨ownNe rfl, fun z => absurd (show (11 : Nat) = 1 from z) (by decide)⟩
theorem LB.pres5 {ids : List Int} (h : LB S K la ids p G B) : Fi S 5 (K 1) p := h.2.2.2.1.1
theorem L_nextHolding (hL : LO S K la A B) (hK : ∀ m, F m → KoM K m) (hP : PatIs S F pp pt) (hpk : PatK pt) (hp1 : A.2.1 ≤ A.1.length ∧ (A.1 ≠ [] → 1 ≤ A.2.1)) (h40 : A.1.length ≤ 40) (hrow : ∀ q ∈ A.1, q.2.length ≤ 30) (hb : v = b2i bk) : BMr (d + 182) gk_X1_nextHolding [aR (K 1), aR pp, aI v] S (fun r S' => r = vI (if sSeek A.1 A.2.1 pt bk = 0 then -1 else (sSeek A.1 A.2.1 pt bk : Int)) ∧ LO S' K la A B ∧ XF K V S S') := by
  subst hb
  obtain ⟨t, p, G⟩ := A
  have hLB : LB S K la (idsOfL t) p G B := hL.1
  have h40 : t.length ≤ 40 := h40
  have hp1 : p ≤ t.length ∧ (t ≠ [] → 1 ≤ p) := hp1
  have hrow : ∀ q ∈ t, q.2.length ≤ 30 := hrow
  have hx := hLB.obx
  have e3 := hLB.e3
  obtain ⟨mc0, hT0⟩ := hLB.text
  have hp0 : Ob S pp (oOwn 9) ∧ KoM K pp := by obtain ⟨q, cap, xs, u, w, us, ws, ⟨f1, _⟩, h, _⟩ := hP; exact ⟨h, hK _ f1⟩
  have hl0 : (lsOf la (idsOfL t)).length = t.length := by rw [lsOf_len, ids_len]
  refine BM.of rfl rfl rfl ?_
  (repeat (first | (refine BW.pl rfl rfl ?_) | (refine CW.geti rfl rfl (by assumption) rfl rfl (by assumption) (fun _ => ?_)) | (refine CW.getr rfl rfl (by assumption) rfl rfl (by assumption) ?_)))
  refine CW.e1 rfl rfl (by first | exact Or.inl rfl | exact Or.inr (tagO (by assumption) (by rfl) (by rfl))) (by first | exact Or.inl (by decide) | exact Or.inr ⟨_, rfl, by assumption⟩) rfl (B_llSize hT0) ?_
  rw [hl0]
  have loop : ∀ (n2 k : Nat) (S2 : BS) (v5 : Option GV), gn1 v5 = true → 1 ≤ k → k + n2 = t.length + 1 → LO S2 K la (t, p, G) B → XF K V S S2 → BW (d + 181) gm_X1_nextHolding 6 [some (aR (K 1)), some (aR pp), some (aI (b2i bk)), some (aI t.length), some (aI k), v5] [] S2 (fun r S' => ∃ v, r = .inl v ∧ (v = vI (if sSeekF t p pt bk n2 k = 0 then -1 else (sSeekF t p pt bk n2 k : Int)) ∧ LO S' K la (t, p, G) B ∧ XF K V S S')) := by
    intro n2
    induction n2 with
    | zero =>
      intro k S2 v5 g5 hk1 hk hL2 hX2
      (repeat (refine BW.pl rfl rfl ?_))
      refine BW.br rfl rfl (by first | omega | decide | (constructor <;> first | omega | decide)) (fun w => ?_) (fun w => by first | (exfalso; omega) | exact absurd w (by decide))
      (repeat (refine BW.pl rfl rfl ?_))
      exact BW.irx rfl (Or.inl ⟨rfl, by decide⟩) ⟨_, rfl, rfl, hL2, hX2⟩
    | succ n2 ih =>
      intro k S2 v5 g5 hk1 hk hL2 hX2
      have hl0 : 0 < t.length := by omega
      have hp2 := hp1.2 (List.length_pos_iff.mp hl0)
      have htr := sTurn_R (back := bk) (p := p) (k := k) hl0
      have hx2 := hL2.1.obx
      have hL2b : LB S2 K la (idsOfL t) p G B := hL2.1
      have h5 := hL2b.pres5
      have hP2 := hP.xf hX2 hK
      have hpo := (hX2.ob hp0.1 hp0.2 (oNe rfl) rfl).1
      obtain ⟨T, hT⟩ : ∃ T, sTurn bk p t.length k = T := ⟨_, rfl⟩
      rw [hT] at htr
      have e1 : sSeekF t p pt bk (n2 + 1) k = if (mFind pt (rowAt t (T - 1)) 0).isSome = true then T else sSeekF t p pt bk n2 (k + 1) := by
        conv => lhs; unfold sSeekF
        rw [hT]
      have go : BW (d + 181) gm_X1_nextHolding 30 [some (aR (K 1)), some (aR pp), some (aI (b2i bk)), some (aI t.length), some (aI k), v5] [aI (T : Int)] S2 (fun r S' => ∃ v, r = .inl v ∧ (v = vI (if sSeekF t p pt bk (n2 + 1) k = 0 then -1 else (sSeekF t p pt bk (n2 + 1) k : Int)) ∧ LO S' K la (t, p, G) B ∧ XF K V S S')) := by
        have hin : t.getD (T - 1) (0, []) ∈ t := getD_mem (by omega)
        obtain ⟨_, hx6, xr, x44, ⟨y2, rfl, hy2⟩, _⟩ := hL2.2 _ hin
        have hx6 : Ob S2 (la (idAt t (T - 1))) (oOwn 6) := hx6
        have x44 : Fe S2 44 (la (idAt t (T - 1))) (some y2) := x44
        have hy2 : Ob S2 y2 (oStr (rowAt t (T - 1))) := hy2
        have h30 : (rowAt t (T - 1)).length ≤ 30 := hrow _ hin
        refine BW.stiV rfl rfl (by simp only [List.all_cons, List.all_nil, g5]; rfl) ?_
        (repeat (refine BW.pl rfl rfl ?_))
        refine CW.e2 rfl rfl (by first | exact Or.inl rfl | exact Or.inr (tagO (by assumption) (by rfl) (by rfl))) (by first | exact Or.inl (by decide) | exact Or.inr ⟨_, rfl, by assumption⟩) rfl (L_lineAt (k := T - 1) (x := idAt t (T - 1)) hL2.1 (by show T - 1 < (idsOfL t).length; rw [ids_len]; omega) ids_get (by show (idsOfL t).length < 100000; rw [ids_len]; omega) (by omega)) ?_
        (repeat (first | (refine BW.pl rfl rfl ?_) | (refine CW.geti rfl rfl (by assumption) rfl rfl (by assumption) (fun _ => ?_)) | (refine CW.getr rfl rfl (by assumption) rfl rfl (by assumption) ?_)))
        refine CW.c2 rfl rfl (by first | exact Or.inl rfl | exact Or.inr (tagO (by assumption) (by rfl) (by rfl))) (by first | exact Or.inl (by decide) | exact Or.inr ⟨_, rfl, by assumption⟩) rfl (P_isIn hP2 hpk hy2 (by omega)) ?_
        rintro r S3 ⟨⟨hS, hR⟩, hP3, rfl⟩
        obtain ⟨hL3, hX3⟩ := LO.fnd (V := V) hL2 hK hS hR
        rw [e1]
        by_cases z : (mFind pt (rowAt t (T - 1)) 0).isSome = true
        · rw [if_pos z, if_pos z]
          refine BW.br rfl rfl (by first | omega | decide | (constructor <;> first | omega | decide)) (fun w => by first | (exfalso; omega) | exact absurd w (by decide)) (fun w => ?_)
          (repeat (refine BW.pl rfl rfl ?_))
          refine BW.irx rfl (Or.inl ⟨rfl, by constructor <;> omega⟩) ⟨_, rfl, ?_, hL3, hX2.tr hX3⟩
          rw [if_neg (by omega)]
        · rw [if_neg z, if_neg z]
          refine BW.br rfl rfl (by first | omega | decide | (constructor <;> first | omega | decide)) (fun w => ?_) (fun w => by first | (exfalso; omega) | exact absurd w (by decide))
          (iterate 2 (refine BW.pl rfl rfl ?_))
          exact ih (k + 1) S3 _ rfl (by omega) (by omega) hL3 (hX2.tr hX3)
      (repeat (refine BW.pl rfl rfl ?_))
      refine BW.br rfl rfl (by first | omega | decide | (constructor <;> first | omega | decide)) (fun w => by first | (exfalso; omega) | exact absurd w (by decide)) (fun w => ?_)
      (repeat (refine BW.pl rfl rfl ?_))
      cases bk with
      | true =>
        refine BW.br rfl rfl (by first | omega | decide | (constructor <;> first | omega | decide)) (fun w2 => by first | (exfalso; omega) | exact absurd w2 (by decide)) (fun w2 => ?_)
        (repeat (first | (refine BW.pl rfl rfl ?_) | (refine CW.geti rfl rfl (by assumption) rfl rfl (by assumption) (fun _ => ?_)) | (refine CW.getr rfl rfl (by assumption) rfl rfl (by assumption) ?_)))
        refine BW.remV (x3 := ((T - 1 : Nat) : Int)) rfl ⟨by omega, by omega⟩ ⟨by omega, by omega⟩ ?_ ?_
        · rw [← hT]
          unfold sTurn
          rw [if_pos rfl, Nat.add_sub_cancel, Int.natCast_emod]
          congr 1
          omega
        · (iterate 1 (refine BW.pl rfl rfl ?_))
          rw [show (1 : Int) + ((T - 1 : Nat) : Int) = (T : Int) by omega]
          exact go
      | false =>
        refine BW.br rfl rfl (by first | omega | decide | (constructor <;> first | omega | decide)) (fun w2 => ?_) (fun w2 => by first | (exfalso; omega) | exact absurd w2 (by decide))
        (repeat (first | (refine BW.pl rfl rfl ?_) | (refine CW.geti rfl rfl (by assumption) rfl rfl (by assumption) (fun _ => ?_)) | (refine CW.getr rfl rfl (by assumption) rfl rfl (by assumption) ?_)))
        refine BW.remV (x3 := ((T - 1 : Nat) : Int)) rfl ⟨by omega, by omega⟩ ⟨by omega, by omega⟩ ?_ ?_
        · rw [← hT]
          unfold sTurn
          rw [if_neg (by decide), Nat.add_sub_cancel, Int.natCast_emod]
          congr 1
          omega
        · (iterate 1 (refine BW.pl rfl rfl ?_))
          rw [show (1 : Int) + ((T - 1 : Nat) : Int) = (T : Int) by omega]
          exact go
  (iterate 3 (refine BW.pl rfl rfl ?_))
  exact loop t.length 1 S none rfl (Nat.le_refl _) (by omega) hL XF.rf
end NH
