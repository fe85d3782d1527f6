-- C
set_option maxRecDepth 100000
/-! LINEORDERS: what was is brought back (Deed, Ahead) -/
section BRI
variable {d n m q i a b e y cap c k j pl B p : Nat} {S S' S0 S1 S2 : BS} {K : Nat → Nat} {la la' : Int → Nat} {A : St} {V : Nat → Prop} {v nn b1 x1 : Int} {r : Option Nat} {dq : SDeed} {t : List SLine} {xs ws : List (Option Nat)} {ids : List Int} {G G' : BG}
/-- a list is no longer than its array -/
theorem BW.alC {d i : Nat} {M : GMeth} {ls : GL} {st : List GV} {Q : GO → BS → Prop} (hn : Ob S n (oAl xs cap)) (kk : xs.length ≤ cap → BW d M i ls st S Q) : BW d M i ls st S Q := by
  obtain ⟨H, fi, fr, t⟩ := S
  rintro g ⟨ρ, ν, hR⟩
  obtain ⟨q1, ⟨a, h1, h2, h3⟩, q3⟩ := hR.obj hn rfl rfl
  exact kk h1.2.2.2.2.2.1 g ⟨ρ, ν, hR⟩
theorem LB.ext (h : LB S K la ids p G B) (h1 : G.1 = G'.1) (h2 : G.2.1 = G'.2.1) (h3 : ∀ k, k < 4 → G.2.2.1 k = G'.2.2.1 k) (h4 : ∀ k, k < 5 → G.2.2.2.1 k = G'.2.2.2.1 k) (h5 : G.2.2.2.2 = G'.2.2.2.2) : LB S K la ids p G' B := by
  obtain ⟨a1, a2, a3, a4, ⟨M, a5, a6⟩, cp, a7, a8⟩ := h
  rw [h5] at a3 a4 a6
  refine ⟨a1, a2, a3, a4, ⟨M, a5, fun j hj => ⟨by rw [← h4 j hj]; exact (a6 j hj).1, fun x hx => (a6 j hj).2 x (by rw [h4 j hj]; exact hx)⟩⟩, cp, fun i hi => ?_, a8⟩
  have e : lsA G' i = lsA G i := by
    have hi' : i = 7 ∨ i = 8 ∨ i = 20 ∨ i = 21 ∨ i = 22 ∨ i = 23 := by revert hi; unfold lIx; simp
    unfold lsA
    split
    · exact h1.symm
    · split
      · exact h2.symm
      · exact (h3 _ (by omega)).symm
  rw [e]
  exact a7 i hi
theorem LB.puG {n' : Int} (h : LB S K la ids p G B) (hP : Pu S S' 4 (K 1)) (hv : Fi S' 4 (K 1) n') (h0 : 0 ≤ n' ∧ n' ≤ G.2.2.2.2.1) (hids : ∀ x ∈ ids, 0 ≤ x ∧ x < n') (hm : ∀ j, j < 5 → ∀ x, G.2.2.2.1 j = some x → 0 ≤ x ∧ x < n') : LB S' K la ids p (setNG G n') B := by
  have hR := h.nR
  obtain ⟨a1, a2, ⟨a31, a32, a33⟩, ⟨M, a4, a5⟩, a6⟩ := h.puX hP (by decide)
  exact ⟨a1, a2, ⟨⟨fun x h1 h2 => a31.1 x h1 (Int.lt_of_lt_of_le (show x < n' from h2) h0.2), fun x y h1 h2 h3 h4 => a31.2 x y h1 (Int.lt_of_lt_of_le (show x < n' from h2) h0.2) h3 (Int.lt_of_lt_of_le (show y < n' from h4) h0.2)⟩, ⟨h0.1, by show n' < 2000000; omega⟩, hids⟩, ⟨h.f5.pu hP (Or.inl (by decide)), hv, h.f14.pu hP (Or.inl (by decide))⟩, ⟨M, a4, fun j hj => ⟨(a5 j hj).1, hm j hj⟩⟩, a6⟩
/-- what is known of a deed that is kept -/
def DqK (n : Int) (q : SDeed) : Prop := q.1 < 2000000 ∧ (q.2.2.1 ≤ q.2.1.length ∧ (q.2.1 ≠ [] → 1 ≤ q.2.2.1)) ∧ q.2.1.length ≤ 40 ∧ (idsOfL q.2.1).Nodup ∧ (∀ x ∈ q.2.1, (0 ≤ x.1 ∧ x.1 < n) ∧ RowOk x.2) ∧ ∀ k x, q.2.2.2 k = some x → x ∈ idsOfL q.2.1
theorem DqK.idR {nn : Int} (h : DqK nn dq) {x : Int} (hx : x ∈ idsOfL dq.2.1) : 0 ≤ x ∧ x < nn := by
  obtain ⟨y, hy, e⟩ := List.mem_map.mp hx
  rw [← e]
  exact (h.2.2.2.2.1 y hy).1
theorem DqK.mk {nn : Int} (h : DqK nn dq) {x : Int} {k : Nat} (hx : dq.2.2.2 k = some x) : 0 ≤ x ∧ x < nn := h.idR (h.2.2.2.2.2 k x hx)
theorem RowsI.puL9 {x : Int} {t : List SLine} (h : RowsI S la nn t) (hP : Pu S S' 44 (la x)) (hx : ∀ q ∈ t, la q.1 ≠ la x) : RowsI S' la nn t := fun q hq => by
  obtain ⟨h1, h2, r, h3, h4⟩ := h q hq
  exact ⟨h1, h2.pu hP trivial, r, h3.pu hP (Or.inr (hx q hq)), h4.pu hP trivial⟩
theorem DeedIs.ar (h : DeedIs S K la m dq) : ∃ a b e xs, (Fe S 31 m (some a) ∧ Ob S a (oRa 106 (lsOf la (idsOfL dq.2.1)))) ∧ (Fe S 32 m (some b) ∧ Ob S b (oRa 105 xs)) ∧ StrsIs S xs (rowsOfL dq.2.1) ∧ Fe S 33 m (some e) ∧ Ob S e (oRa 106 (mkA la dq.2.2.2)) := by
  obtain ⟨k, g1, g2, g3, g4, a, b, e, xs, _, h⟩ := h
  exact ⟨a, b, e, xs, h⟩
theorem L_deedBring (hL : LB S K la ids p G B) (hD : DeedIs S K la m dq) (hq : DqK G.2.2.2.2.1 dq) (hB : B + 1000 ≤ 20000000) : BMr (d + 10) gk_X10_bring [aR m] S (fun r S' => r = none ∧ LO S' K la (dq.2.1, dq.2.2.1, setM G dq.2.2.2) (B + 760) ∧ XF K (fun _ => True) S S') := by
  obtain ⟨pl, t, p1, mk⟩ := dq
  have h40 : t.length ≤ 40 := hq.2.2.1
  have hnd : (idsOfL t).Nodup := hq.2.2.2.1
  have hidR : ∀ {x : Int}, x ∈ idsOfL t → 0 ≤ x ∧ x < G.2.2.2.2.1 := fun z => hq.idR z
  have hmkR : ∀ {x : Int} {k : Nat}, mk k = some x → 0 ≤ x ∧ x < G.2.2.2.2.1 := fun z => hq.mk z
  have hx := hL.obx
  have e3 := hL.e3
  have e6 := hL.e6
  have hm := hD.2.1
  have h35 := hD.2.2.2.2.1
  obtain ⟨mc, hT⟩ := hL.text
  obtain ⟨htt, _⟩ := hL.tt
  refine BM.of rfl rfl rfl ?_
  (repeat (first | (refine BW.pl rfl rfl ?_) | (refine CW.geti rfl rfl (by assumption) rfl rfl (by assumption) (fun _ => ?_)) | (refine CW.getr rfl rfl (by assumption) rfl rfl (by assumption) ?_)))
  refine CW.c1 rfl rfl (by first | exact Or.inl rfl | exact Or.inr (tagO (by assumption) (by rfl) (by rfl))) (by first | exact Or.inl (by decide) | exact Or.inr ⟨_, rfl, by assumption⟩) rfl (C_llClr hT (by omega)) ?_
  rintro r S1 ⟨rfl, hT1, hF1⟩
  have hX1 : XF K (fun _ => True) S S1 := XF.rf.f1 hF1 (fun _ => hL.wk (by decide))
  have hL1 : LB S1 K la [] p G (B + 1) := hL.setText hF1 LoX.k hT1 (fun x z => by cases z) (by omega)
  have hD1 := hD.xf hX1
  have hx1 := hL1.obx
  have e61 := hL1.e6
  have hm1 := hD1.2.1
  have h351 := hD1.2.2.2.2.1
  obtain ⟨M, hM, _⟩ := hL1.marks
  obtain ⟨htt1, _⟩ := hL1.tt
  (repeat (first | (refine BW.pl rfl rfl ?_) | (refine CW.geti rfl rfl (by assumption) rfl rfl (by assumption) (fun _ => ?_)) | (refine CW.getr rfl rfl (by assumption) rfl rfl (by assumption) ?_)))
  refine CW.c1 rfl rfl (by first | exact Or.inl rfl | exact Or.inr (tagO (by assumption) (by rfl) (by rfl))) (by first | exact Or.inl (by decide) | exact Or.inr ⟨_, rfl, by assumption⟩) rfl (C_tmClr hM (by omega)) ?_
  rintro r S2 ⟨rfl, hM2, hF2⟩
  have hX12 : XF K (fun _ => True) S1 S2 := XF.rf.f1 hF2 (fun _ => hL1.wk (by decide))
  have hX2 := hX1.tr hX12
  have hL2 : LB S2 K la [] p (setM G (fun _ => none)) (B + 2) := hL1.setMk hF2 LoX.k ⟨_, hM2, fun j _ => ⟨rfl, fun x z => by cases z⟩⟩ (by omega)
  have hD2 := hD1.xf hX12
  (iterate 2 (refine BW.pl rfl rfl ?_))
  -- the marks
  have marks : ∀ (N j : Nat) (S3 : BS), j + N = 5 → LB S3 K la (idsOfL t) p (setM G (fun k => if k < j then mk k else none)) (B + 2 + 16 * t.length + 19 * j) → RowsI S3 la G.2.2.2.2.1 t → XF K (fun _ => True) S S3 → DeedIs S3 K la m (pl, t, p1, mk) → BW (d + 9) gm_X10_bring 36 [some (aR m), some (aI j)] [] S3 (fun r S' => ∃ v, r = .inl v ∧ v = none ∧ LO S' K la (t, p1, setM G mk) (B + 760) ∧ XF K (fun _ => True) S S') := by
    intro N
    induction N with
    | zero =>
      intro j S3 hj hL3 hR3 hX3 hD3
      have hj5 : j = 5 := by omega
      subst hj5
      have hx3 := hL3.obx
      have hm3 := hD3.2.1
      have h353 := hD3.2.2.2.2.1
      have h343 : Fi S3 34 m (p1 : Int) := hD3.2.2.2.1
      (repeat (refine BW.pl rfl rfl ?_))
      refine BW.br rfl rfl (by first | omega | decide | (constructor <;> first | omega | decide)) (fun w => ?_) (fun w => by first | (exfalso; omega) | exact absurd w (by decide))
      (repeat (first | (refine BW.pl rfl rfl ?_) | (refine CW.geti rfl rfl (by assumption) rfl rfl (by assumption) (fun _ => ?_)) | (refine CW.getr rfl rfl (by assumption) rfl rfl (by assumption) ?_)))
      first | (refine CW.putr rfl rfl (by assumption) rfl (by decide) (fun S4 hP4 h54 => ?_)) | (refine CW.puti rfl (by assumption) rfl (by decide) (by first | exact Or.inl ⟨rfl, by first | omega | decide | (constructor <;> first | omega | decide)⟩ | exact Or.inr (Or.inl ⟨rfl, by first | omega | decide | (constructor <;> first | omega | decide)⟩) | exact Or.inr (Or.inr (Or.inl ⟨rfl, by first | omega | decide | (constructor <;> first | omega | decide)⟩)) | exact Or.inr (Or.inr (Or.inr ⟨rfl, by first | omega | decide | (constructor <;> first | omega | decide)⟩))) (fun S4 hP4 h54 => ?_))
      refine BW.ret rfl rfl ⟨_, rfl, rfl, ⟨?_, hR3.f6 hP4.fr (W6.one hx3 (ownNe rfl) rfl)⟩, hX3.pu1 hP4 (by decide)⟩
      have h9 := (hL3.puP hP4 h54 rfl).le (B' := B + 760) (by omega) (by omega)
      exact h9.ext rfl rfl (fun _ _ => rfl) (fun k hk => by show (if k < 5 then mk k else none) = mk k; rw [if_pos hk]) rfl
    | succ N ih =>
      intro j S3 hj hL3 hR3 hX3 hD3
      have hx3 := hL3.obx
      have e63 := hL3.e6
      have hm3 := hD3.2.1
      have h353 := hD3.2.2.2.2.1
      obtain ⟨a, b, e, xs, -, -, -, h33, he⟩ := hD3.ar
      have he : Ob S3 e (oRa 106 (mkA la mk)) := he
      have hel := mkA_len (la := la) (mk := mk)
      have ej : ((j : Nat) : Int).toNat = j := by omega
      have hgj : (mkA la mk).getD ((j : Int)).toNat none = (mk j).map la := by rw [ej]; exact mkA_get (by omega)
      obtain ⟨htt3, _⟩ := hL3.tt
      (repeat (refine BW.pl rfl rfl ?_))
      refine BW.br rfl rfl (by first | omega | decide | (constructor <;> first | omega | decide)) (fun w => by first | (exfalso; omega) | exact absurd w (by decide)) (fun w => ?_)
      (repeat (first | (refine BW.pl rfl rfl ?_) | (refine CW.geti rfl rfl (by assumption) rfl rfl (by assumption) (fun _ => ?_)) | (refine CW.getr rfl rfl (by assumption) rfl rfl (by assumption) ?_)))
      refine CW.aald rfl he ⟨by omega, by omega⟩ ?_
      rw [hgj]
      cases hz : mk j with
      | none =>
        show BW (d + 9) gm_X10_bring 43 _ [aQ none] S3 _
        refine CW.nul rfl rfl (fun n h => by cases h) ?_
        (iterate 2 (refine BW.pl rfl rfl ?_))
        refine ih (j + 1) S3 (by omega) ((hL3.le (by omega) (by omega)).ext rfl rfl (fun _ _ => rfl) (fun k hk => ?_) rfl) hR3 hX3 hD3
        show (if k < j then mk k else none) = if k < j + 1 then mk k else none
        by_cases z : k = j
        · subst z
          rw [if_neg (by omega), if_pos (by omega), hz]
        · by_cases z2 : k < j
          · rw [if_pos z2, if_pos (by omega)]
          · rw [if_neg z2, if_neg (by omega)]
      | some x =>
        have hxR := hmkR hz
        have hxo : Ob S3 (la x) (oOwn 6) := (hL3.2.2.1.1.1 x hxR.1 hxR.2).1
        rw [hz] at hgj
        show BW (d + 9) gm_X10_bring 43 _ [aR (la x)] S3 _
        refine CW.nul rfl rfl (fun n h => by cases h; rw [show S3.1 (la x) = _ from hxo]; rfl) ?_
        (repeat (first | (refine BW.pl rfl rfl ?_) | (refine CW.geti rfl rfl (by assumption) rfl rfl (by assumption) (fun _ => ?_)) | (refine CW.getr rfl rfl (by assumption) rfl rfl (by assumption) ?_)))
        refine CW.e1 rfl rfl (by first | exact Or.inl rfl | exact Or.inr (tagO (by assumption) (by rfl) (by rfl))) (by first | exact Or.inl (by decide) | exact Or.inr ⟨_, rfl, by assumption⟩) rfl (B_intOf ⟨by omega, by omega⟩) ?_
        (repeat (first | (refine BW.pl rfl rfl ?_) | (refine CW.geti rfl rfl (by assumption) rfl rfl (by assumption) (fun _ => ?_)) | (refine CW.getr rfl rfl (by assumption) rfl rfl (by assumption) ?_)))
        refine CW.aald rfl he ⟨by omega, by omega⟩ ?_
        rw [hgj]
        obtain ⟨M3, hM3, hMk3⟩ := hL3.marks
        refine CW.c3 rfl rfl (by first | exact Or.inl rfl | exact Or.inr (tagO (by assumption) (by rfl) (by rfl))) (by first | exact Or.inl (by decide) | exact Or.inr ⟨_, rfl, by assumption⟩) rfl (C_tmPut hM3 ⟨by omega, by omega⟩ (vOk_o hxo rfl) (by omega)) ?_
        rintro r S4 ⟨rfl, hM4, hF4⟩
        have hX34 : XF K (fun _ => True) S3 S4 := XF.rf.f1 hF4 (fun _ => hL3.wk (by decide))
        have hL4 : LB S4 K la (idsOfL t) p (setM G (fun k => if k < j + 1 then mk k else none)) (B + 2 + 16 * t.length + 19 * (j + 1)) := by
          have h9 := hL3.setMk (mk := fun k => if k < j + 1 then mk k else none) hF4 LoX.k ⟨_, hM4, fun k hk => ?_⟩ (by omega)
          · exact h9.le (by omega) (by omega)
          · obtain ⟨g1, g2⟩ := hMk3 k hk
            have g1 : M3 (k : Int) = (if k < j then mk k else none).map la := g1
            show upM M3 (j : Int) (some (la x)) k = (if k < j + 1 then mk k else none).map la ∧ ∀ y, (if k < j + 1 then mk k else none) = some y → 0 ≤ y ∧ y < G.2.2.2.2.1
            unfold upM
            by_cases z : k = j
            · subst z
              rw [if_pos rfl, if_pos (by omega), hz]
              exact ⟨rfl, fun y hy => by cases hy; exact hxR⟩
            · rw [if_neg (by omega), g1]
              by_cases z2 : k < j
              · rw [if_pos z2, if_pos (by omega)]
                exact ⟨rfl, fun y hy => hmkR hy⟩
              · rw [if_neg z2, if_neg (by omega)]
                exact ⟨rfl, fun y hy => by cases hy⟩
        (iterate 3 (refine BW.pl rfl rfl ?_))
        exact ih (j + 1) S4 (by omega) hL4 (hR3.f6 hF4 (W6.one hM3 (oNe rfl) rfl)) (hX3.tr hX34) (hD3.xf hX34)
  -- the lines
  have lines : ∀ (N j : Nat) (S3 : BS), j + N = t.length → LB S3 K la (idsOfL (t.take j)) p (setM G (fun _ => none)) (B + 2 + 16 * j) → RowsI S3 la G.2.2.2.2.1 (t.take j) → XF K (fun _ => True) S S3 → DeedIs S3 K la m (pl, t, p1, mk) → BW (d + 9) gm_X10_bring 10 [some (aR m), some (aI j)] [] S3 (fun r S' => ∃ v, r = .inl v ∧ v = none ∧ LO S' K la (t, p1, setM G mk) (B + 760) ∧ XF K (fun _ => True) S S') := by
    intro N
    induction N with
    | zero =>
      intro j S3 hj hL3 hR3 hX3 hD3
      have hjt : j = t.length := by omega
      have et : t.take j = t := List.take_of_length_le (by omega)
      rw [et] at hL3 hR3
      have hm3 := hD3.2.1
      obtain ⟨a, b, e, xs, ⟨h31, ha⟩, -⟩ := hD3.ar
      have hal : (lsOf la (idsOfL t)).length = t.length := by rw [lsOf_len, ids_len]
      (repeat (first | (refine BW.pl rfl rfl ?_) | (refine CW.geti rfl rfl (by assumption) rfl rfl (by assumption) (fun _ => ?_)) | (refine CW.getr rfl rfl (by assumption) rfl rfl (by assumption) ?_)))
      refine CW.alenR rfl ha (fun _ => ?_)
      rw [show (lsOf la (idsOfL (pl, t, p1, mk).2.1)).length = t.length from hal]
      refine BW.br rfl rfl (by first | omega | decide | (constructor <;> first | omega | decide)) (fun w => ?_) (fun w => by first | (exfalso; omega) | exact absurd w (by decide))
      (iterate 2 (refine BW.pl rfl rfl ?_))
      exact marks 5 0 S3 rfl ((hL3.le (B' := B + 2 + 16 * t.length + 19 * 0) (by omega) (by omega)).ext rfl rfl (fun _ _ => rfl) (fun k hk => by show none = if k < 0 then mk k else none; rw [if_neg (Nat.not_lt_zero _)]) rfl) hR3 hX3 hD3
    | succ N ih =>
      intro j S3 hj hL3 hR3 hX3 hD3
      have hjt : j < t.length := by omega
      have ej : ((j : Nat) : Int).toNat = j := by omega
      have hx3 := hL3.obx
      have e33 := hL3.e3
      have hm3 := hD3.2.1
      have h353 := hD3.2.2.2.2.1
      obtain ⟨a, b, e, xs, ⟨h31, ha⟩, ⟨h32, hb⟩, hs, -⟩ := hD3.ar
      have ha : Ob S3 a (oRa 106 (lsOf la (idsOfL t))) := ha
      have hs : StrsIs S3 xs (rowsOfL t) := hs
      have hal : (lsOf la (idsOfL t)).length = t.length := by rw [lsOf_len, ids_len]
      have hrl : (rowsOfL t).length = t.length := by unfold rowsOfL; rw [List.length_map]
      have hbl : xs.length = t.length := by rw [hs.1, hrl]
      have hxm : t[j] ∈ t := List.getElem_mem hjt
      have hxR := hidR (mem_ids hxm)
      have hxo : Ob S3 (la t[j].1) (oOwn 6) := (hL3.2.2.1.1.1 _ hxR.1 hxR.2).1
      have hgj : (lsOf la (idsOfL t)).getD ((j : Int)).toNat none = some (la t[j].1) := by
        rw [ej]
        exact lsOf_get (by rw [ids_len]; exact hjt) (by rw [ids_get, List.getD_eq_getElem?_getD, List.getElem?_eq_getElem hjt]; rfl)
      obtain ⟨⟨y, hy1, hy2⟩, hyk⟩ := hs.2 j (by omega)
      have hrj : (rowsOfL t).getD j [] = t[j].2 := by
        unfold rowsOfL
        rw [List.getD_eq_getElem?_getD, List.getElem?_map, List.getElem?_eq_getElem hjt]
        rfl
      rw [hrj] at hy2
      have hyj : xs.getD ((j : Int)).toNat none = some y := by rw [ej]; exact hy1
      obtain ⟨mc3, hT3⟩ := hL3.text
      have hpl : (idsOfL (t.take j)).length = j := by rw [ids_len, List.length_take]; omega
      have et : t.take (j + 1) = t.take j ++ [t[j]] := List.take_succ_eq_append_getElem hjt
      have hnotin : t[j].1 ∉ idsOfL (t.take j) := fun z => by
        have h9 : (idsOfL (t.take (j + 1))).Nodup := hnd.sublist (by unfold idsOfL; exact (List.take_sublist _ _).map _)
        rw [et, idsOfL_app, List.nodup_append] at h9
        exact h9.2.2 _ z _ List.mem_cons_self rfl
      have hlne : ∀ q ∈ t.take j, la q.1 ≠ la t[j].1 := fun q hq z => by
        have hqR := hidR (mem_ids (List.mem_of_mem_take hq))
        have := hL3.2.2.1.1.2 q.1 t[j].1 hqR.1 hqR.2 hxR.1 hxR.2 z
        exact hnotin (by rw [← this]; exact mem_ids hq)
      (repeat (first | (refine BW.pl rfl rfl ?_) | (refine CW.geti rfl rfl (by assumption) rfl rfl (by assumption) (fun _ => ?_)) | (refine CW.getr rfl rfl (by assumption) rfl rfl (by assumption) ?_)))
      refine CW.alenR rfl ha (fun _ => ?_)
      rw [hal]
      refine BW.br rfl rfl (by first | omega | decide | (constructor <;> first | omega | decide)) (fun w => by first | (exfalso; omega) | exact absurd w (by decide)) (fun w => ?_)
      (repeat (first | (refine BW.pl rfl rfl ?_) | (refine CW.geti rfl rfl (by assumption) rfl rfl (by assumption) (fun _ => ?_)) | (refine CW.getr rfl rfl (by assumption) rfl rfl (by assumption) ?_)))
      refine CW.aald rfl ha ⟨by omega, by omega⟩ ?_
      rw [hgj]
      (repeat (first | (refine BW.pl rfl rfl ?_) | (refine CW.geti rfl rfl (by assumption) rfl rfl (by assumption) (fun _ => ?_)) | (refine CW.getr rfl rfl (by assumption) rfl rfl (by assumption) ?_)))
      refine CW.aald rfl hb ⟨by omega, by omega⟩ ?_
      rw [hyj]
      first | (refine CW.putr rfl rfl (by assumption) rfl (by decide) (fun S4 hP4 h444 => ?_)) | (refine CW.puti rfl (by assumption) rfl (by decide) (by first | exact Or.inl ⟨rfl, by first | omega | decide | (constructor <;> first | omega | decide)⟩ | exact Or.inr (Or.inl ⟨rfl, by first | omega | decide | (constructor <;> first | omega | decide)⟩) | exact Or.inr (Or.inr (Or.inl ⟨rfl, by first | omega | decide | (constructor <;> first | omega | decide)⟩)) | exact Or.inr (Or.inr (Or.inr ⟨rfl, by first | omega | decide | (constructor <;> first | omega | decide)⟩))) (fun S4 hP4 h444 => ?_))
      have hX34 : XF K (fun _ => True) S3 S4 := XF.rf.puV hP4 trivial
      have hL4 : LB S4 K la (idsOfL (t.take j)) p (setM G (fun _ => none)) (B + 2 + 16 * j) := hL3.puL hP4 (hxo.ne hx3 (ownNe rfl)) (Or.inl (by decide))
      have hR4 := hR3.puL9 hP4 hlne
      have hD4 := hD3.xf hX34
      have hx4 := hL4.obx
      have e34 := hL4.e3
      have hm4 := hD4.2.1
      have h354 := hD4.2.2.2.2.1
      have h314 := h31.pu hP4 (Or.inl (by decide))
      have ha4 := ha.pu hP4 trivial
      have hxo4 := hxo.pu hP4 trivial
      have hy4 := hy2.pu hP4 trivial
      have hT4 := hT3.pu hP4 trivial
      obtain ⟨htt4, _⟩ := hL4.tt
      (repeat (first | (refine BW.pl rfl rfl ?_) | (refine CW.geti rfl rfl (by assumption) rfl rfl (by assumption) (fun _ => ?_)) | (refine CW.getr rfl rfl (by assumption) rfl rfl (by assumption) ?_)))
      refine CW.aald rfl ha4 ⟨by omega, by omega⟩ ?_
      rw [hgj]
      refine CW.c2 rfl rfl (by first | exact Or.inl rfl | exact Or.inr (tagO (by assumption) (by rfl) (by rfl))) (by first | exact Or.inl (by decide) | exact Or.inr ⟨_, rfl, by assumption⟩) rfl (C_llAdd hT4 (vOk_o hxo4 rfl) (by rw [lsOf_len]; omega) (by omega)) ?_
      rintro r S5 ⟨rfl, hT5, hF5⟩
      have e9 : lsOf la (idsOfL (t.take j)) ++ [some (la t[j].1)] = lsOf la (idsOfL (t.take (j + 1))) := by rw [et, idsOfL_app, lsOf_app]; rfl
      rw [e9] at hT5
      have hX45 : XF K (fun _ => True) S4 S5 := XF.rf.f1 hF5 (fun _ => hL4.wk (by decide))
      have hL5 : LB S5 K la (idsOfL (t.take (j + 1))) p (setM G (fun _ => none)) (B + 2 + 16 * (j + 1)) := (hL4.setText hF5 LoX.k hT5 (fun x hx => hidR (by
        obtain ⟨z, hz1, hz2⟩ := List.mem_map.mp hx
        rw [← hz2]
        exact mem_ids (List.mem_of_mem_take hz1))) (by omega)).le (by omega) (by omega)
      have w6 := W6.one hT4 (oNe rfl) rfl
      have hR5 : RowsI S5 la G.2.2.2.2.1 (t.take (j + 1)) := by
        rw [et]
        refine (hR4.f6 hF5 w6).app (fun z hz => ?_)
        rw [List.mem_singleton.mp hz]
        exact RowI.f6 ⟨hxR, hxo4, _, h444, ⟨y, rfl, hy4⟩, by rw [← hy1]; exact hyk⟩ hF5 w6
      (iterate 2 (refine BW.pl rfl rfl ?_))
      exact ih (j + 1) S5 (by omega) hL5 hR5 ((hX3.tr hX34).tr hX45) (hD4.xf hX45)
  exact lines t.length 0 S2 (Nat.zero_add _) hL2 (fun z hz => by cases hz) hX2 hD2
theorem StrsIs.take {rows : List (List Int)} (h : StrsIs S xs rows) (k : Nat) (hk : k ≤ rows.length) : StrsIs S (xs.take k) (rows.take k) := by
  refine ⟨by rw [List.length_take, List.length_take, h.1], fun j hj => ?_⟩
  rw [List.length_take] at hj
  have e1 : (xs.take k).getD j none = xs.getD j none := by
    rw [List.getD_eq_getElem?_getD, List.getElem?_take, if_pos (by omega), List.getD_eq_getElem?_getD]
  have e2 : (rows.take k).getD j [] = rows.getD j [] := by
    rw [List.getD_eq_getElem?_getD, List.getElem?_take, if_pos (by omega), List.getD_eq_getElem?_getD]
  rw [e1, e2]
  exact h.2 j (by omega)
end BRI
