-- C
set_option maxRecDepth 100000
/-! LINEORDERS: part, leaveOut -/
def setNG (G : BG) (n : Int) : BG := (G.1, G.2.1, G.2.2.1, G.2.2.2.1, n, G.2.2.2.2.2)
def gn1 (v : Option GV) : Bool := match v with
  | some (.inr (.inl _)) => false
  | _ => true
section PL
variable {d n m q i a y cap p B c k f e l b it lr : Nat} {S S' S0 S1 S2 : BS} {K : Nat → Nat} {la la' la2 : Int → Nat} {P R : List Int} {G : BG} {A : St} {V W : Nat → Prop} {s z : List Int} {v w nn : Int} {dn rs post : List SLine} {mk mk' : Nat → Option Int} {xs ys : List (Option Nat)} {o : Obj} {x : SLine} {r : Option Nat} {Q : GO → BS → Prop}
/-- a store where what stands in other places isn't known -/
theorem BW.strV {M : GMeth} {ls : GL} {st : List GV} {b1 : Int} (hC : M.2.2.1[i]? = some (4, a, b1)) (hl : Nat.ble (a + 1) ls.length = true) (hg : ls.all gn1 = true) (k : BW d M (i + 1) (ls.set a (some (.inr (.inr r)))) st S Q) : BW d M i ls (.inr (.inr r) :: st) S Q := BW.str hC hl (by rw [gnoL_set (show gnoL ls = true from hg)]; exact k)
theorem BW.incV {M : GMeth} {ls : GL} {st : List GV} {b1 x1 : Int} (hC : M.2.2.1[i]? = some (35, a, b1)) (hv : ls[a]? = some (some (.inl x1))) (hl : Nat.ble (a + 1) ls.length = true) (hg : ls.all gn1 = true) (k : BW d M (i + 1) (ls.set a (some (.inl (x1 + b1)))) st S Q) : BW d M i ls st S Q := fun g hR => GW.incl hC hv hl (by rw [gnoL_set (show gnoL ls = true from hg)]; exact k g hR)
theorem LC.frW (h : LC S0 S K la p G B it lr dn rs V) (hF : Fr S S' W c) (hs : LoW K S W) (hi : Sep S W it) (hX : XF K V S S') (hB : B + c ≤ 20000000) : LC S0 S' K la p G (B + c) it lr dn rs V := by
  obtain ⟨h1, ⟨mc, h2, h3⟩, h4, h5, h6, h7⟩ := h
  exact ⟨h1.fr hF hs hB, ⟨mc, h2.fr hF ⟨oNe rfl, hs.sep (by decide) (h2.old (oNe rfl))⟩, h3.fr hF ⟨oNe rfl, hi⟩⟩, h4, h5, h6.tr hX, h7⟩
theorem LC.f0 (h : LC S0 S K la p G B it lr dn rs V) (hF : Fr0 S S' c) (hB : B + c ≤ 20000000) : LC S0 S' K la p G (B + c) it lr dn rs V := h.frW hF LoW.no Sep.no (XF.rf.f0 hF) hB
theorem LC.le {B' : Nat} (h : LC S0 S K la p G B it lr dn rs V) (hB : B ≤ B') (hB2 : B' ≤ 20000000) : LC S0 S K la p G B' it lr dn rs V := by
  obtain ⟨h1, h2⟩ := h
  exact ⟨h1.le hB hB2, h2⟩
theorem LC.big (h : LC S0 S K la p G B it lr dn rs V) : S.2.2.2 ≤ B + 191000 ∧ B ≤ 20000000 := h.lb.tt
theorem sub9_to {e : Nat} : sub9 s 0 e = s.take e := by unfold sub9; simp
theorem sub9_fr {b : Nat} : sub9 s b s.length = s.drop b := by
  unfold sub9
  have e1 : ((b : Int)).toNat = b := by omega
  have e2 : ((s.length : Int) - (b : Int)).toNat = s.length - b := by omega
  rw [e1, e2, List.take_of_length_le (by rw [List.length_drop]; omega)]
theorem okS.sub {q' : Nat} (h : okS (some n)) (hq : q' = n ∨ q' = 260 ∨ 1000 ≤ q') : okS (some q') := okS.mk (by
  rcases hq with z | z | z
  · rw [z]; exact h n rfl
  · exact Or.inr z
  · exact Or.inl z)
theorem seg_split (hf : 1 ≤ f) (hfl : f ≤ l + 1) {t : List SLine} (hl : l ≤ t.length) : t.drop (f - 1) = seg t f l ++ t.drop l := by
  unfold seg
  have e : t.drop l = (t.drop (f - 1)).drop (l + 1 - f) := by rw [List.drop_drop, show f - 1 + (l + 1 - f) = l by omega]
  rw [e, List.take_append_drop]
theorem L_part {size : Nat} (hL : LO S K la A B) (hf : 1 ≤ f) (hfl : f ≤ l + 1) (hl : l ≤ A.1.length) (h40 : A.1.length ≤ 40) (hnd : (idsOfL A.1).Nodup) (hrow : ∀ q ∈ A.1, q.2.length ≤ 30) (hn : A.2.2.2.2.2.2.1 < 1900000) (hs : size ≤ 100) (hB : B + 60000 ≤ 20000000) (hv : v = size) (hw : w = f) (hz : nn = l) : BM (d + 8) gk_X1_part [aR (K 1), aI v, aI w, aI nn] S (ActX S K la A B 3017 3017 (fun _ => True) (sPart A size f l)) := by
  subst hv hw hz
  obtain ⟨t, p, G⟩ := A
  have hLB : LB S K la (idsOfL t) p G B := hL.1
  have hl : l ≤ t.length := hl
  have h40 : t.length ≤ 40 := h40
  have hrow : ∀ q ∈ t, q.2.length ≤ 30 := hrow
  have hnd : (idsOfL t).Nodup := hnd
  have hnG : G.2.2.2.2.1 < 1900000 := hn
  have hx := hLB.obx
  have e3 := hLB.e3
  have hnR := hLB.nR
  obtain ⟨mc0, hT0⟩ := hLB.text
  have hsl := seg_len (t := t) hl hf
  refine BM.of rfl rfl rfl ?_
  (repeat (first | (refine BW.pl rfl rfl ?_) | (refine CW.geti rfl rfl (by assumption) rfl rfl (by assumption) (fun _ => ?_)) | (refine CW.getr rfl rfl (by assumption) rfl rfl (by assumption) ?_)))
  have eb : (f : Int) - 1 = ((f - 1 : Nat) : Int) := by omega
  rw [eb]
  refine CW.c2 rfl rfl (by first | exact Or.inl rfl | exact Or.inr (tagO (by assumption) (by rfl) (by rfl))) (by first | exact Or.inl (by decide) | exact Or.inr ⟨_, rfl, by assumption⟩) rfl (L_cur (V := fun _ => True) hL (k := f - 1) (by omega) (by omega) (by omega) rfl hT0) ?_
  rintro r S1 ⟨it, rfl, hitk, hC, hF1⟩
  have loop : ∀ (ms dn : List SLine) (S1 : BS) (la1 : Int → Nat) (n1 : Int) (cap B1 lr : Nat) (v6 v7 : Option GV), gn1 v6 = true → gn1 v7 = true → LC S S1 K la1 p (setNG G n1) B1 it lr dn (ms ++ t.drop l) (fun _ => True) → (idsOfL (dn ++ (ms ++ t.drop l))).Nodup → (∀ q ∈ ms, q.2.length ≤ 30) → cap = 40 - (dn ++ (ms ++ t.drop l)).length → (dn ++ (ms ++ t.drop l)).length ≤ 40 → ms.length ≤ l + 1 - f → LaE la la1 G.2.2.2.2.1 → G.2.2.2.2.1 ≤ n1 → n1 + cap ≤ G.2.2.2.2.1 + 40 → (t.length ≤ (dn ++ (ms ++ t.drop l)).length ∧ (dn ++ (ms ++ t.drop l)).length + ms.length ≤ t.length + (l + 1 - f) ∧ B1 + 146 * t.length ≤ B + 17 + 146 * (dn ++ (ms ++ t.drop l)).length) → (sPart (t, p, G) size f l = match sPartL size cap n1 ms with
      | none => .inl 4
      | some (q, n2) => .inr (dn ++ q ++ t.drop l, (dn ++ q).length, setNG G n2)) → BW (d + 7) gm_X1_part 9 [some (aR (K 1)), some (aI size), some (aI f), some (aI l), some (aR it), some (aI ((l : Int) + 1 - ms.length)), v6, v7] [] S1 (ActX S K la (t, p, G) B 3017 3017 (fun _ => True) (sPart (t, p, G) size f l)) := by
    intro ms
    induction ms with
    | nil =>
      intro dn S1 la1 n1 cap B1 lr v6 v7 g6 g7 hC hnd1 hrow1 hcap h401 hml hE hn1 hn2 hB1 hsp
      have hx1 := hC.lb.obx
      obtain ⟨mc, hT, hit⟩ := hC.2.1
      have hdl : dn.length ≤ 40 := by simp at h401; omega
      have e1 : (l : Int) + 1 - (([] : List SLine).length : Nat) = (l : Int) + 1 := by rw [List.length_nil]; omega
      rw [e1]
      (repeat (refine BW.pl rfl rfl ?_))
      refine BW.br rfl rfl (by first | omega | decide | (constructor <;> first | omega | decide)) (fun w => ?_) (fun w => by first | (exfalso; omega) | exact absurd w (by decide))
      (repeat (refine BW.pl rfl rfl ?_))
      refine CW.e1 rfl rfl (by first | exact Or.inl rfl | exact Or.inr (tagO (by assumption) (by rfl) (by rfl))) (by first | exact Or.inl (by decide) | exact Or.inr ⟨_, rfl, by assumption⟩) rfl (hC.idx) ?_
      first | (refine CW.putr rfl rfl (by assumption) rfl (by decide) (fun S2 hP2 h5 => ?_)) | (refine CW.puti rfl (by assumption) rfl (by decide) (by first | exact Or.inl ⟨rfl, by first | omega | decide | (constructor <;> first | omega | decide)⟩ | exact Or.inr (Or.inl ⟨rfl, by first | omega | decide | (constructor <;> first | omega | decide)⟩) | exact Or.inr (Or.inr (Or.inl ⟨rfl, by first | omega | decide | (constructor <;> first | omega | decide)⟩)) | exact Or.inr (Or.inr (Or.inr ⟨rfl, by first | omega | decide | (constructor <;> first | omega | decide)⟩))) (fun S2 hP2 h5 => ?_))
      have hC2 := hC.pres hP2 h5 rfl
      refine BW.ret rfl rfl ?_
      rw [hsp]
      have e0 : dn ++ [] ++ t.drop l = dn ++ ([] ++ t.drop l) := by simp
      refine ⟨rfl, la1, ?_, hC2.2.2.2.2.1, hE⟩
      show LO S2 K la1 (dn ++ [] ++ t.drop l, (dn ++ []).length, setNG G n1) _
      rw [e0, List.append_nil]
      exact hC2.1.le (by simp at hB1 h401; omega) (by simp at hB1 h401; omega)
    | cons x ms ih =>
      intro dn S1 la1 n1 cap B1 lr v6 v7 g6 g7 hC hnd1 hrow1 hcap h401 hml hE hn1 hn2 hB1 hsp
      have hxr := hrow1 x List.mem_cons_self
      have hlt : (dn ++ (x :: ms ++ t.drop l)).length = dn.length + (ms.length + 1) + (t.drop l).length := by simp; omega
      obtain ⟨mc, hT, hit⟩ := hC.2.1
      have hcb := hC.big
      have hml2 : ms.length + 1 ≤ l + 1 - f := by simpa using hml
      obtain ⟨hbk1, hbk2, hbk3⟩ := hB1
      have hml3 : (x :: ms).length = ms.length + 1 := rfl
      have hB2 : B1 ≤ B + 3017 := by omega
      (repeat (refine BW.pl rfl rfl ?_))
      have e1 : (l : Int) + 1 - ((x :: ms).length : Nat) = (l : Int) - ms.length := by rw [List.length_cons]; omega
      rw [e1]
      refine BW.br rfl rfl (by first | omega | decide | (constructor <;> first | omega | decide)) (fun w => by first | (exfalso; omega) | exact absurd w (by decide)) (fun w => ?_)
      (repeat (refine BW.pl rfl rfl ?_))
      have hC' : LC S S1 K la1 p (setNG G n1) B1 it lr dn (x :: (ms ++ t.drop l)) (fun _ => True) := hC
      refine CW.c1 rfl rfl (by first | exact Or.inl rfl | exact Or.inr (tagO (by assumption) (by rfl) (by rfl))) (by first | exact Or.inl (by decide) | exact Or.inr ⟨_, rfl, by assumption⟩) rfl (L_next hC') ?_
      rintro r S2 ⟨rfl, hC2, hF2⟩
      have hmem : x ∈ dn ++ [x] ++ (ms ++ t.drop l) := by simp
      obtain ⟨hxR, hx6, xr, x44, ⟨yy, rfl, hy⟩, hyk⟩ := hC2.rws x hmem
      refine CW.castS rfl hx6 rfl rfl rfl ?_
      refine BW.strV rfl rfl (by simp only [List.all_cons, List.all_nil, g6, g7]; rfl) ?_
      (repeat (first | (refine BW.pl rfl rfl ?_) | (refine CW.geti rfl rfl (by assumption) rfl rfl (by assumption) (fun _ => ?_)) | (refine CW.getr rfl rfl (by assumption) rfl rfl (by assumption) ?_)))
      refine CW.e1 rfl rfl (by first | exact Or.inl rfl | exact Or.inr (tagO (by assumption) (by rfl) (by rfl))) (by first | exact Or.inl (by decide) | exact Or.inr ⟨_, rfl, by assumption⟩) rfl (B_slen hy) ?_
      (repeat (refine BW.pl rfl rfl ?_))
      have hnx := hnd1
      have eids : idsOfL (dn ++ (x :: ms ++ t.drop l)) = idsOfL dn ++ x.1 :: idsOfL (ms ++ t.drop l) := by rw [idsOfL_app]; rfl
      rw [eids, List.nodup_append] at hnx
      have hxd : x.1 ∉ idsOfL dn := fun z => hnx.2.2 _ z _ List.mem_cons_self rfl
      have hxp : x.1 ∉ idsOfL (ms ++ t.drop l) := (List.nodup_cons.mp hnx.2.1).1
      by_cases zs : size < x.2.length
      · refine BW.br rfl rfl (by first | omega | decide | (constructor <;> first | omega | decide)) (fun w2 => by first | (exfalso; omega) | exact absurd w2 (by decide)) (fun w2 => ?_)
        have hx2 := hC2.lb.obx
        have e32 := hC2.lb.e3
        obtain ⟨mc2, hT2, hit2⟩ := hC2.2.1
        have hll : (lsOf la1 (idsOfL (dn ++ [x] ++ (ms ++ t.drop l)))).length = (dn ++ (x :: ms ++ t.drop l)).length := by rw [lsOf_len, ids_len]; simp
        (repeat (first | (refine BW.pl rfl rfl ?_) | (refine CW.geti rfl rfl (by assumption) rfl rfl (by assumption) (fun _ => ?_)) | (refine CW.getr rfl rfl (by assumption) rfl rfl (by assumption) ?_)))
        refine CW.e1 rfl rfl (by first | exact Or.inl rfl | exact Or.inr (tagO (by assumption) (by rfl) (by rfl))) (by first | exact Or.inl (by decide) | exact Or.inr ⟨_, rfl, by assumption⟩) rfl (B_llSize hT2) ?_
        rw [hll]
        (repeat (refine BW.pl rfl rfl ?_))
        cases cap with
        | zero =>
          refine BW.br rfl rfl (by first | omega | decide | (constructor <;> first | omega | decide)) (fun w3 => ?_) (fun w3 => by first | (exfalso; omega) | exact absurd w3 (by decide))
          (repeat (refine BW.pl rfl rfl ?_))
          refine CW.need rfl rfl (by decide) rfl (Or.inl rfl) (by decide) rfl (fun w => absurd w (by decide)) (fun _ r9 S9 hT9 => ?_)
          have e2 : sPartL size 0 n1 (x :: ms) = none := by
            conv => lhs; unfold sPartL
            rw [if_pos zs]
          rw [hsp, e2]
          exact ⟨S2, la1, (dn ++ [x] ++ (ms ++ t.drop l), p, setNG G n1), hC2.1.1.le (by omega) (by omega), hC2.2.2.2.2.1, hE, hn1, ⟨[], by show G.2.1 = G.2.1 ++ []; simp⟩, hT9⟩
        | succ cap =>
          have e2 : sPartL size (cap + 1) n1 (x :: ms) = match sPartL size cap (n1 + 1) ms with
              | none => none
              | some (q, n2) => some ((x.1, x.2.take size) :: (n1, x.2.drop size) :: q, n2) := by
            conv => lhs; unfold sPartL
            rw [if_pos zs]
            dsimp only
            cases sPartL size cap (n1 + 1) ms <;> rfl
          refine BW.br rfl rfl (by first | omega | decide | (constructor <;> first | omega | decide)) (fun w3 => by first | (exfalso; omega) | exact absurd w3 (by decide)) (fun w3 => ?_)
          (repeat (refine BW.pl rfl rfl ?_))
          refine CW.need rfl rfl (by decide) rfl (Or.inr rfl) (by decide) rfl (fun _ => ?_) (fun w => absurd w (by decide))
          (repeat (first | (refine BW.pl rfl rfl ?_) | (refine CW.geti rfl rfl (by assumption) rfl rfl (by assumption) (fun _ => ?_)) | (refine CW.getr rfl rfl (by assumption) rfl rfl (by assumption) ?_)))
          refine CW.c2 rfl rfl (by first | exact Or.inl rfl | exact Or.inr (tagO (by assumption) (by rfl) (by rfl))) (by first | exact Or.inl (by decide) | exact Or.inr ⟨_, rfl, by assumption⟩) rfl (C_subs1 hy ⟨by omega, by omega⟩) ?_
          rintro r S3 ⟨y2, rfl, hy2, hF3, hy2k⟩
          refine BW.strV rfl rfl (by simp only [List.set, List.all_cons, List.all_nil, g7]; rfl) ?_
          rw [sub9_fr] at hy2
          have hC3 := hC2.f0 hF3 (by omega)
          have hx63 := hx6.fr hF3 ⟨oNe rfl, Sep.no⟩
          have x443 := x44.fr hF3 ⟨⟨hx6.old (oNe rfl), by decide⟩, Sep.no⟩
          have hy3 := hy.fr hF3 ⟨oNe rfl, Sep.no⟩
          (repeat (first | (refine BW.pl rfl rfl ?_) | (refine CW.geti rfl rfl (by assumption) rfl rfl (by assumption) (fun _ => ?_)) | (refine CW.getr rfl rfl (by assumption) rfl rfl (by assumption) ?_)))
          refine CW.c3 rfl rfl (by first | exact Or.inl rfl | exact Or.inr (tagO (by assumption) (by rfl) (by rfl))) (by first | exact Or.inl (by decide) | exact Or.inr ⟨_, rfl, by assumption⟩) rfl (C_subs (y := 0) hy3 ⟨by omega, by omega, by omega⟩) ?_
          rintro r S4 ⟨y4, rfl, hy4, hF4, hy4k⟩
          rw [sub9_to] at hy4
          have hC4 := hC3.f0 hF4 (by omega)
          have hx64 := hx63.fr hF4 ⟨oNe rfl, Sep.no⟩
          have hy24 := hy2.fr hF4 ⟨oNe rfl, Sep.no⟩
          first | (refine CW.putr rfl rfl (by assumption) rfl (by decide) (fun S5 hP5 h44 => ?_)) | (refine CW.puti rfl (by assumption) rfl (by decide) (by first | exact Or.inl ⟨rfl, by first | omega | decide | (constructor <;> first | omega | decide)⟩ | exact Or.inr (Or.inl ⟨rfl, by first | omega | decide | (constructor <;> first | omega | decide)⟩) | exact Or.inr (Or.inr (Or.inl ⟨rfl, by first | omega | decide | (constructor <;> first | omega | decide)⟩)) | exact Or.inr (Or.inr (Or.inr ⟨rfl, by first | omega | decide | (constructor <;> first | omega | decide)⟩))) (fun S5 hP5 h44 => ?_))
          have hC5 := hC4.row hP5 h44 ⟨⟨y4, rfl, hy4⟩, hyk.sub hy4k⟩ ⟨hxd, hxp⟩ trivial
          have hy25 := hy24.pu hP5 trivial
          have hx5 := hC5.lb.obx
          (repeat (refine BW.pl rfl rfl ?_))
          refine CW.c2 rfl rfl (by first | exact Or.inl rfl | exact Or.inr (tagO (by assumption) (by rfl) (by rfl))) (by first | exact Or.inl (by decide) | exact Or.inr ⟨_, rfl, by assumption⟩) rfl (L_makeC hC5 hy25 (hyk.sub hy2k) (by show n1 + 1 < 2000000; omega) (by omega)) ?_
          rintro r S6 ⟨m, rfl, hC6, hR6, hm6⟩
          obtain ⟨mc6, hT6, hit6⟩ := hC6.2.1
          refine CW.c2 rfl rfl (by first | exact Or.inl rfl | exact Or.inr (tagO (by assumption) (by rfl) (by rfl))) (by first | exact Or.inl (by decide) | exact Or.inr ⟨_, rfl, by assumption⟩) rfl (L_add hC6 hR6 hm6 (by omega) (by simp; simp at h401; omega)) ?_
          rintro r S7 ⟨rfl, hC7, hF7⟩
          (iterate 2 (refine BW.pl rfl rfl ?_))
          have e4 : (l : Int) - (ms.length : Nat) + 1 = (l : Int) + 1 - (ms.length : Nat) := by omega
          rw [e4]
          refine ih _ S7 _ (n1 + 1) cap _ 0 _ _ rfl rfl hC7 ?_ (fun q hq => hrow1 q (List.mem_cons_of_mem _ hq)) ?_ ?_ (by omega) (hE.tr LaE.up (show G.2.2.2.2.1 ≤ n1 from hn1)) (by omega) (by omega) (by simp at hbk1 hbk2 hbk3 hlt ⊢; omega) ?_
          · have hlt1 : ∀ y ∈ idsOfL (dn ++ (x :: ms ++ t.drop l)), y < n1 := fun y hy => by
              have := hC2.lb.idR (x := y) (by
                have e9 : dn ++ [x] ++ (ms ++ t.drop l) = dn ++ (x :: ms ++ t.drop l) := by simp
                rw [e9]; exact hy)
              exact this.2
            have e9 : idsOfL (dn ++ [(x.1, x.2.take size)] ++ [((setNG G n1).2.2.2.2.1, x.2.drop size)] ++ (ms ++ t.drop l)) = (idsOfL dn ++ [x.1]) ++ n1 :: idsOfL (ms ++ t.drop l) := by rw [idsOfL_app, idsOfL_app, idsOfL_app]; simp [idsOfL]; rfl
            rw [e9]
            have e10 : idsOfL (dn ++ (x :: ms ++ t.drop l)) = (idsOfL dn ++ [x.1]) ++ idsOfL (ms ++ t.drop l) := by rw [eids]; simp
            rw [e10] at hnd1 hlt1
            rw [List.nodup_append] at hnd1 ⊢
            refine ⟨hnd1.1, List.nodup_cons.mpr ⟨fun z => by have := hlt1 n1 (List.mem_append_right _ z); omega, hnd1.2.1⟩, fun a ha b hb => ?_⟩
            rcases List.mem_cons.mp hb with z | z
            · intro w; have := hlt1 a (List.mem_append_left _ ha); omega
            · exact hnd1.2.2 a ha b z
          · simp at hcap ⊢; omega
          · simp at hcap ⊢; omega
          · rw [hsp, e2]
            cases sPartL size cap (n1 + 1) ms with
            | none => rfl
            | some z => obtain ⟨z1, z2⟩ := z; simp; rfl
      · refine BW.br rfl rfl (by first | omega | decide | (constructor <;> first | omega | decide)) (fun w2 => ?_) (fun w2 => by first | (exfalso; omega) | exact absurd w2 (by decide))
        have e2 : sPartL size cap n1 (x :: ms) = match sPartL size cap n1 ms with
            | none => none
            | some (q, n2) => some ((x.1, x.2) :: q, n2) := by
          conv => lhs; unfold sPartL
          rw [if_neg zs]
          cases sPartL size cap n1 ms <;> rfl
        refine BW.incV rfl rfl rfl (by simp only [List.set, List.all_cons, List.all_nil, g7]; rfl) ?_
        (iterate 1 (refine BW.pl rfl rfl ?_))
        have e4 : (l : Int) - (ms.length : Nat) + 1 = (l : Int) + 1 - (ms.length : Nat) := by omega
        rw [e4]
        have e5 : dn ++ [x] ++ (ms ++ t.drop l) = dn ++ (x :: ms ++ t.drop l) := by simp
        refine ih _ S2 la1 n1 cap B1 _ _ _ rfl g7 hC2 (by rw [e5]; exact hnd1) (fun q hq => hrow1 q (List.mem_cons_of_mem _ hq)) (by rw [e5]; exact hcap) (by rw [e5]; exact h401) (by omega) hE hn1 hn2 (by rw [e5]; exact ⟨hbk1, by omega, hbk3⟩) ?_
        rw [hsp, e2]
        cases sPartL size cap n1 ms with
        | none => rfl
        | some z => obtain ⟨z1, z2⟩ := z; simp
  (iterate 3 (refine BW.pl rfl rfl ?_))
  have es := seg_split hf hfl hl
  have e0 : t.take (f - 1) ++ (seg t f l ++ t.drop l) = t := by rw [← es, List.take_append_drop]
  have hG0 : setNG G G.2.2.2.2.1 = G := rfl
  have e1 : (f : Int) = (l : Int) + 1 - ((seg t f l).length : Nat) := by rw [hsl]; omega
  have lp := loop (seg t f l) (t.take (f - 1)) S1 la G.2.2.2.2.1 (40 - t.length) (B + 17) 0 none none rfl rfl (by rw [← es]; exact hC) (by rw [e0]; exact hnd) (fun q hq => hrow q (List.mem_of_mem_drop (List.mem_of_mem_take hq))) (by rw [e0]) (by rw [e0]; exact h40) (by omega) LaE.rf (Int.le_refl _) (by omega) (by rw [e0]; omega) (by
    show (match sPartL size (40 - t.length) G.2.2.2.2.1 (seg t f l) with
      | none => .inl 4
      | some (q, n1) => .inr (t.take (f - 1) ++ q ++ t.drop l, f - 1 + q.length, G.1, G.2.1, G.2.2.1, G.2.2.2.1, n1, G.2.2.2.2.2) : Nat ⊕ St) = _
    cases sPartL size (40 - t.length) G.2.2.2.2.1 (seg t f l) with
    | none => rfl
    | some z =>
      obtain ⟨z1, z2⟩ := z
      show Sum.inr _ = Sum.inr _
      rw [List.length_append, List.length_take, Nat.min_eq_left (by omega)]
      rfl)
  rw [← e1] at lp
  exact lp
end PL
