-- C
set_option maxRecDepth 100000
/-! LINEORDERS: the small methods -/
def incN (G : BG) : BG := (G.1, G.2.1, G.2.2.1, G.2.2.2.1, G.2.2.2.2.1 + 1, G.2.2.2.2.2)
def upL (la : Int → Nat) (n : Int) (m : Nat) : Int → Nat := fun x => if x = n then m else la x
def idNo (ids : List Int) (x : Int) : Nat := match ids.findIdx? (fun q => q == x) with
  | some k => k + 1
  | none => 0
section ME
variable {d n m q i a y cap p B c : Nat} {S S' S0 S1 S2 : BS} {K : Nat → Nat} {la : Int → Nat} {ids : List Int} {G : BG} {V W : Nat → Prop} {s : List Int} {x v : Int} {t : List SLine} {mk mk' : Nat → Option Int} {xs : List (Option Nat)} {rows : List (List Int)}
theorem LB.tt (h : LB S K la ids p G B) : S.2.2.2 ≤ B + 191000 ∧ B ≤ 20000000 := by
  obtain ⟨_, _, _, _, _, cp, h1, ⟨_, h2⟩, h3, h4⟩ := h
  have key : ∀ i ∈ lIx, cp i ≤ 300 := fun i hi => by obtain ⟨xs, _, _, z⟩ := h1 i hi; exact z
  have a := key 7 (by decide); have b := key 8 (by decide); have c := key 20 (by decide); have d := key 21 (by decide); have e := key 22 (by decide); have f := key 23 (by decide)
  unfold cSum at h3
  omega
theorem L_tell (hL : LB S K la ids p G B) (hy : Ob S y (oStr s)) (hyk : okS (some y)) (ho : G.2.1.length ≤ 100) (hB : B + 1 ≤ 20000000) : BM (d + 8) gk_X1_tell [aR (K 1), aR y] S (fun r S' => if G.2.1.length = 100 then Thr9 11 78 4 S r S' else r = .inl none ∧ LB S' K la ids p (setLs G 8 (G.2.1 ++ [s])) (B + 1) ∧ XF K V S S' ∧ ∃ c, Fr1 S S' (K 8) c) := by
  have hx := hL.obx
  have e8 := hL.e8
  have ht := hL.tt
  obtain ⟨cap, xs, hob, hss, hcap⟩ := hL.list (i := 8) (by decide)
  have hss : StrsIs S xs G.2.1 := hss
  have hlen := hss.1
  refine BM.of rfl rfl rfl ?_
  (repeat (first | (refine BW.pl rfl rfl ?_) | (refine CW.geti rfl rfl (by assumption) rfl rfl (by assumption) (fun _ => ?_)) | (refine CW.getr rfl rfl (by assumption) rfl rfl (by assumption) ?_)))
  refine CW.e1 rfl rfl (by first | exact Or.inl rfl | exact Or.inr (tagO (by assumption) (by rfl) (by rfl))) (by first | exact Or.inl (by decide) | exact Or.inr ⟨_, rfl, by assumption⟩) rfl (B_alSize hob) ?_
  (repeat (refine BW.pl rfl rfl ?_))
  by_cases z : G.2.1.length = 100
  · refine BW.br rfl rfl (by first | omega | decide | (constructor <;> first | omega | decide)) (fun w => ?_) (fun w => by first | (exfalso; omega) | exact absurd w (by decide))
    (repeat (refine BW.pl rfl rfl ?_))
    refine CW.need rfl rfl (by decide) rfl (Or.inl rfl) (by decide) rfl (fun w => absurd w (by decide)) (fun _ r9 S9 hT9 => ?_)
    rw [if_pos z]
    exact hT9
  · refine BW.br rfl rfl (by first | omega | decide | (constructor <;> first | omega | decide)) (fun w => by first | (exfalso; omega) | exact absurd w (by decide)) (fun w => ?_)
    (repeat (refine BW.pl rfl rfl ?_))
    refine CW.need rfl rfl (by decide) rfl (Or.inr rfl) (by decide) rfl (fun _ => ?_) (fun w => absurd w (by decide))
    (repeat (first | (refine BW.pl rfl rfl ?_) | (refine CW.geti rfl rfl (by assumption) rfl rfl (by assumption) (fun _ => ?_)) | (refine CW.getr rfl rfl (by assumption) rfl rfl (by assumption) ?_)))
    refine CW.c2 rfl rfl (by first | exact Or.inl rfl | exact Or.inr (tagO (by assumption) (by rfl) (by rfl))) (by first | exact Or.inl (by decide) | exact Or.inr ⟨_, rfl, by assumption⟩) rfl (C_alAdd hob (vOk_o hy rfl) (by omega) (by omega)) ?_
    rintro r S1 ⟨rfl, cap', hob1, hF1, hc1, hc2⟩
    (repeat (refine BW.pl rfl rfl ?_))
    refine BW.ret rfl rfl ?_
    rw [if_neg z]
    have hn8 : NoS S (fun k => k = K 8) := NoS.one hob rfl
    have hyn : y ≠ K 8 := hy.ne hob (oNe rfl)
    exact ⟨rfl, hL.setList (i := 8) (by decide) hob hF1 LoX.k ⟨_, hob1, (hss.fr hF1 hn8).app ⟨⟨y, rfl, hy.fr hF1 ⟨oNe rfl, hyn⟩⟩, hyk⟩, by omega⟩ hc1 hB, XF.rf.f1 hF1 (fun _ => hL.wk (by decide)), _, hF1⟩
theorem L_checked (hy : Ob S y (oStr s)) : BM (d + 5) gk_X1_checked [aR y] S (fun r S' => if 30 < s.length then Thr9 11 78 4 S r S' else r = .inl (vR (some y)) ∧ S' = S) := by
  refine BM.of rfl rfl rfl ?_
  refine BW.strL hy (fun hsl => ?_)
  (repeat (refine BW.pl rfl rfl ?_))
  refine CW.e1 rfl rfl (by first | exact Or.inl rfl | exact Or.inr (tagO (by assumption) (by rfl) (by rfl))) (by first | exact Or.inl (by decide) | exact Or.inr ⟨_, rfl, by assumption⟩) rfl (B_slen hy) ?_
  (repeat (refine BW.pl rfl rfl ?_))
  by_cases z : 30 < s.length
  · refine BW.br rfl rfl (by first | omega | decide | (constructor <;> first | omega | decide)) (fun w => ?_) (fun w => by first | (exfalso; omega) | exact absurd w (by decide))
    (repeat (refine BW.pl rfl rfl ?_))
    refine CW.need rfl rfl (by decide) rfl (Or.inl rfl) (by decide) rfl (fun w => absurd w (by decide)) (fun _ r9 S9 hT9 => ?_)
    rw [if_pos z]
    exact hT9
  · refine BW.br rfl rfl (by first | omega | decide | (constructor <;> first | omega | decide)) (fun w => by first | (exfalso; omega) | exact absurd w (by decide)) (fun w => ?_)
    (repeat (refine BW.pl rfl rfl ?_))
    refine CW.need rfl rfl (by decide) rfl (Or.inr rfl) (by decide) rfl (fun _ => ?_) (fun w => absurd w (by decide))
    (repeat (refine BW.pl rfl rfl ?_))
    refine BW.aret rfl rfl ?_
    rw [if_neg z]
    exact ⟨rfl, rfl⟩
theorem LB.newLine2 (h : LB S K la ids p G B) (hP : Pu S S1 4 (K 1)) (h4 : Fi S1 4 (K 1) v) (hv : v = G.2.2.2.2.1 + 1) (hm : S1.1 m = oNil) (hF : Fr S1 S' (fun k => k = m) c) (hm1 : Ob S' m (oOwn 6)) (h43 : Fi S' 43 m G.2.2.2.2.1) (hn : G.2.2.2.2.1 + 1 < 2000000) (hB : B + c ≤ 20000000) : LB S' K (upL la G.2.2.2.2.1 m) ids p (incN G) (B + c) := by
  have hF : Fr0 S1 S' c := hF.w (fun k hk z => hk (by rw [z]; exact hm)) (Nat.le_refl _)
  have h0 := h
  have hids := h0.2.2.1.2.2
  have hx1 := hP.fr.1 _ (h0.obx.old (oNe rfl))
  obtain ⟨a1, ⟨mc, a2⟩, ⟨a3, a31, a32⟩, ⟨M, a4, a41⟩, cp, b1, ⟨⟨b20, b2⟩, b22⟩, b3⟩ := h.puX hP (by decide)
  have hmS : S.1 m = oNil := by rw [← congrFun hP.1 m]; exact hm
  have old : ∀ x, 0 ≤ x → x < G.2.2.2.2.1 → la x ≠ m := fun x x1 x2 z => by
    have := (h0.2.2.1.1.1 x x1 x2).1
    rw [z] at this
    exact this.old (oNe rfl) hmS
  have el : lsOf (upL la G.2.2.2.2.1 m) ids = lsOf la ids := by
    unfold lsOf
    refine List.map_congr_left (fun x hx => ?_)
    have := hids x hx
    show some (if x = G.2.2.2.2.1 then m else la x) = some (la x)
    rw [if_neg (by omega)]
  have f5 := h0.f5.pu hP (Or.inl (by decide))
  have f14 := h0.f14.pu hP (Or.inl (by decide))
  have a3' := a3.fr hF (LoW.no (K := K))
  rw [hv] at h4
  refine ⟨a1.fr hF LoW.no, ⟨mc, by rw [el]; exact a2.fr hF ⟨oNe rfl, Sep.no⟩⟩, ⟨⟨fun x x1 x2 => ?_, fun x y x1 x2 y1 y2 e => ?_⟩, ⟨by show (0 : Int) ≤ G.2.2.2.2.1 + 1; omega, hn⟩, fun x hx => ?_⟩, ⟨f5.fr hF ⟨⟨hx1, by decide⟩, Sep.no⟩, h4.fr hF ⟨⟨hx1, by decide⟩, Sep.no⟩, f14.fr hF ⟨⟨hx1, by decide⟩, Sep.no⟩⟩, ⟨M, a4.fr hF ⟨oNe rfl, Sep.no⟩, fun j hj => ?_⟩, cp, fun i hi => (b1 i hi).fr hF ⟨Sep.no, NoS.no⟩, ⟨⟨b20, b2.fr hF ⟨oNe rfl, Sep.no⟩⟩, b22⟩, by have := hF.2.2; omega, hB⟩
  · have x2 : x < G.2.2.2.2.1 + 1 := x2
    show Ob S' (if x = G.2.2.2.2.1 then m else la x) _ ∧ Fi S' 43 (if x = G.2.2.2.2.1 then m else la x) x
    by_cases e : x = G.2.2.2.2.1
    · rw [if_pos e, e]
      exact ⟨hm1, h43⟩
    · rw [if_neg e]
      exact a3'.1 x x1 (by omega)
  · have x2 : x < G.2.2.2.2.1 + 1 := x2
    have y2 : y < G.2.2.2.2.1 + 1 := y2
    have e : (if x = G.2.2.2.2.1 then m else la x) = (if y = G.2.2.2.2.1 then m else la y) := e
    by_cases e1 : x = G.2.2.2.2.1
    · by_cases e2 : y = G.2.2.2.2.1
      · omega
      · rw [if_pos e1, if_neg e2] at e
        exact absurd e.symm (old y y1 (by omega))
    · by_cases e2 : y = G.2.2.2.2.1
      · rw [if_neg e1, if_pos e2] at e
        exact absurd e (old x x1 (by omega))
      · rw [if_neg e1, if_neg e2] at e
        exact a3.2 x y x1 (by omega) y1 (by omega) e
  · have := hids x hx
    show 0 ≤ x ∧ x < G.2.2.2.2.1 + 1
    omega
  · obtain ⟨c1, c2⟩ := a41 j hj
    refine ⟨?_, fun x hx => ?_⟩
    · rw [c1]
      show (G.2.2.2.1 j).map la = (G.2.2.2.1 j).map (upL la G.2.2.2.2.1 m)
      cases e : G.2.2.2.1 j with
      | none => rfl
      | some x =>
        have := c2 x e
        show some (la x) = some (if x = G.2.2.2.2.1 then m else la x)
        rw [if_neg (by omega)]
    · have := c2 x hx
      show 0 ≤ x ∧ x < G.2.2.2.2.1 + 1
      omega
theorem RowI.upl {nn n2 : Int} {sl : SLine} (h : RowI S la nn sl) (hn : nn ≤ n2) : RowI S (upL la nn m) n2 sl := by
  obtain ⟨h1, h2⟩ := h
  have e : upL la nn m sl.1 = la sl.1 := if_neg (by omega)
  unfold RowI
  rw [e]
  exact ⟨⟨h1.1, by omega⟩, h2⟩
theorem RowsI.upl {nn n2 : Int} (h : RowsI S la nn t) (hn : nn ≤ n2) : RowsI S (upL la nn m) n2 t := fun q hq => (h q hq).upl hn
theorem C_lineNew {k : Nat} (hn : Ob S n (oOwn 6)) (h1000 : 1000 ≤ n) (hx : inR x) {r : Option Nat} : BMr (d + 1) gk_X12_init [aR n, aI x, aQ r] S (fun r' S' => r' = none ∧ Fr1 S S' n 0 ∧ Ob S' n (oOwn 6) ∧ Fi S' 43 n x ∧ Fe S' 44 n r) := by
  refine BM.of rfl rfl rfl ?_
  (repeat (refine BW.pl rfl rfl ?_))
  refine BW.oini rfl h1000 (Nat.le_of_ble_eq_true rfl) ?_
  (repeat (refine BW.pl rfl rfl ?_))
  first | (refine CW.putr rfl rfl (by assumption) rfl (by decide) (fun S1 hP1 h43 => ?_)) | (refine CW.puti rfl (by assumption) rfl (by decide) (by first | exact Or.inl ⟨rfl, by first | omega | decide | (constructor <;> first | omega | decide)⟩ | exact Or.inr (Or.inl ⟨rfl, by first | omega | decide | (constructor <;> first | omega | decide)⟩) | exact Or.inr (Or.inr (Or.inl ⟨rfl, by first | omega | decide | (constructor <;> first | omega | decide)⟩)) | exact Or.inr (Or.inr (Or.inr ⟨rfl, by first | omega | decide | (constructor <;> first | omega | decide)⟩))) (fun S1 hP1 h43 => ?_))
  have hn1 := hn.pu hP1 trivial
  (repeat (refine BW.pl rfl rfl ?_))
  first | (refine CW.putr rfl rfl (by assumption) rfl (by decide) (fun S2 hP2 h44 => ?_)) | (refine CW.puti rfl (by assumption) rfl (by decide) (by first | exact Or.inl ⟨rfl, by first | omega | decide | (constructor <;> first | omega | decide)⟩ | exact Or.inr (Or.inl ⟨rfl, by first | omega | decide | (constructor <;> first | omega | decide)⟩) | exact Or.inr (Or.inr (Or.inl ⟨rfl, by first | omega | decide | (constructor <;> first | omega | decide)⟩)) | exact Or.inr (Or.inr (Or.inr ⟨rfl, by first | omega | decide | (constructor <;> first | omega | decide)⟩))) (fun S2 hP2 h44 => ?_))
  exact BW.ret rfl rfl ⟨_, rfl, rfl, (hP1.fr.tr hP2.fr (fun _ _ z => z)).w (fun _ _ z => z) (Nat.le_refl _), hn1.pu hP2 trivial, h43.pu hP2 (Or.inl (by decide)), h44⟩
theorem L_makeLine (hL : LB S K la ids p G B) (hy : Ob S y (oStr s)) (hyk : okS (some y)) (hn : G.2.2.2.2.1 + 1 < 2000000) (hB : B + 14 ≤ 20000000) : BMr (d + 2) gk_X1_makeLine [aR (K 1), aR y] S (fun r S' => ∃ m, r = vR (some m) ∧ S.1 m = oNil ∧ Ob S' m (oOwn 6) ∧ LB S' K (upL la G.2.2.2.2.1 m) ids p (incN G) (B + 14) ∧ RowI S' (upL la G.2.2.2.2.1 m) (G.2.2.2.2.1 + 1) (G.2.2.2.2.1, s) ∧ XF K V S S' ∧ Fr1 S S' (K 1) 14) := by
  have hx := hL.obx
  have f4 := hL.f4
  have hnR := hL.nR
  refine BM.of rfl rfl rfl ?_
  (repeat (first | (refine BW.pl rfl rfl ?_) | (refine CW.geti rfl rfl (by assumption) rfl rfl (by assumption) (fun _ => ?_)) | (refine CW.getr rfl rfl (by assumption) rfl rfl (by assumption) ?_)))
  first | (refine CW.putr rfl rfl (by assumption) rfl (by decide) (fun S1 hP1 h4 => ?_)) | (refine CW.puti rfl (by assumption) rfl (by decide) (by first | exact Or.inl ⟨rfl, by first | omega | decide | (constructor <;> first | omega | decide)⟩ | exact Or.inr (Or.inl ⟨rfl, by first | omega | decide | (constructor <;> first | omega | decide)⟩) | exact Or.inr (Or.inr (Or.inl ⟨rfl, by first | omega | decide | (constructor <;> first | omega | decide)⟩)) | exact Or.inr (Or.inr (Or.inr ⟨rfl, by first | omega | decide | (constructor <;> first | omega | decide)⟩))) (fun S1 hP1 h4 => ?_))
  have hx1 := hx.pu hP1 trivial
  refine CW.newO (L := 2) (c := 6) rfl rfl rfl rfl (fun m S2 hN => ?_)
  have hx2 := hN.fr.ob hx1 (oNe rfl)
  have h42 := h4.fr hN.fr ⟨⟨hx1.old (oNe rfl), by decide⟩, Sep.no⟩
  have hm := hN.ob
  have hmk := hN.1
  (repeat (first | (refine BW.pl rfl rfl ?_) | (refine CW.geti rfl rfl (by assumption) rfl rfl (by assumption) (fun _ => ?_)) | (refine CW.getr rfl rfl (by assumption) rfl rfl (by assumption) ?_)))
  refine CW.c3 rfl rfl (by first | exact Or.inl rfl | exact Or.inr (tagO (by assumption) (by rfl) (by rfl))) (by first | exact Or.inl (by decide) | exact Or.inr ⟨_, rfl, by assumption⟩) rfl (C_lineNew (k := 0) hm hN.1 (by omega)) ?_
  rintro r S3 ⟨rfl, hF3, hm3, h43, h44⟩
  have hF13 : Fr S1 S3 (fun k => k = m) 14 := (((Fr.rf (S := S1) (W := fun k => k = m)).nw hN).f1 hF3 (fun _ => rfl)).w (fun _ _ z => z) (by omega)
  have hmS : S.1 m = oNil := by rw [← congrFun hP1.1 m]; exact hN.nil
  have hX1 : XF K V S S1 := XF.rf.pu1 hP1 (by decide)
  have hX : XF K V S S3 := hX1.fr hF13 (fun k hk z => by subst z; exact absurd hmS hk)
  have e0 : G.2.2.2.2.1 + 1 - 1 = G.2.2.2.2.1 := by omega
  rw [e0] at h43
  exact BW.aret rfl rfl ⟨_, rfl, m, rfl, hmS, hm3, hL.newLine2 hP1 h4 rfl hN.nil hF13 hm3 h43 hn hB, ⟨⟨hnR.1, by show G.2.2.2.2.1 < G.2.2.2.2.1 + 1; omega⟩, by show Ob S3 (upL la G.2.2.2.2.1 m G.2.2.2.2.1) _; rw [show upL la G.2.2.2.2.1 m G.2.2.2.2.1 = m from if_pos rfl]; exact hm3, some y, by show Fe S3 44 (upL la G.2.2.2.2.1 m G.2.2.2.2.1) _; rw [show upL la G.2.2.2.2.1 m G.2.2.2.2.1 = m from if_pos rfl]; exact h44, hX.str ⟨y, rfl, hy⟩, hyk⟩, hX, (hP1.fr.tr hF13 (fun k hk z => by subst z; exact absurd hmS hk)).w (fun _ _ z => z) (by omega)⟩
theorem LB.mkc (h : LB S K la ids p (setM G mk) B) (he : ∀ j, j < 5 → mk j = mk' j) : LB S K la ids p (setM G mk') B := by
  obtain ⟨a1, a2, a3, a4, ⟨M, a5, a6⟩, a7⟩ := h
  refine ⟨a1, a2, a3, a4, ⟨M, a5, fun j hj => ?_⟩, a7⟩
  have e : (setM G mk').2.2.2.1 j = (setM G mk).2.2.2.1 j := (he j hj).symm
  rw [e]
  exact a6 j hj
theorem setM_self : setM G G.2.2.2.1 = G := rfl
theorem setM_2 : setM (setM G mk) mk' = setM G mk' := rfl
end ME
