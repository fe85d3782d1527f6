-- C
set_option maxRecDepth 100000
/-! LINEORDERS: leaveOut, hold -/
section LV
variable {d n m q i a y cap p B c k f e l b it lr : Nat} {S S' S0 S1 S2 : BS} {K : Nat → Nat} {la la' la2 : Int → Nat} {ids P R : List Int} {G : BG} {A : St} {V W : Nat → Prop} {s z : List Int} {v w nn : Int} {dn rs post : List SLine} {mk mk' : Nat → Option Int} {xs ys : List (Option Nat)} {rows : List (List Int)} {o : Obj} {x : SLine} {r : Option Nat} {Q : GO → BS → Prop}
theorem BW.mono2 {M : GMeth} {ls : GL} {st : List GV} {Q' : GO → BS → Prop} (hq : ∀ r S', Q' r S' → Q r S') (h : BW d M i ls st S Q') : BW d M i ls st S Q := fun g hg hW => by
  obtain ⟨N, r, g', h1, h2, S', h3, h4⟩ := h g hg hW
  exact ⟨N, r, g', h1, h2, S', h3, hq _ _ h4⟩
theorem C_seq {n' : Nat} {s' : List Int} (hn : Ob S n (oStr s)) (hn' : Ob S n' (oStr s')) (hk : okS (some n)) (hk' : okS (some n')) : BE (d + 2) gk_J10_equals [aR n, aR n'] S (vI (if s = s' then 1 else 0)) := by
  obtain ⟨H, fi, fr, t⟩ := S
  refine B_seq (d := d) hn hn' ?_
  rcases hk n rfl with z | z
  · exact Or.inl z
  · rcases hk' n' rfl with z' | z'
    · exact Or.inr (Or.inl z')
    · exact Or.inr (Or.inr (by omega))
theorem L_leaveOut (hL : LO S K la A B) (hf : 1 ≤ f) (hfl : f ≤ l) (hl : l ≤ A.1.length) (h40 : A.1.length ≤ 1000) (hB : B + 60000 ≤ 20000000) (hw : w = f) (hz : nn = l) : BMr (d + 8) gk_X1_leaveOut [aR (K 1), aI w, aI nn] S (fun r S' => r = none ∧ LO S' K la (sLeave A f l) (B + 17 + 10 * (l + 1 - f)) ∧ XF K V S S') := by
  subst hw hz
  obtain ⟨t, p, G⟩ := A
  have hLB : LB S K la (idsOfL t) p G B := hL.1
  have hl : l ≤ t.length := hl
  have h40 : t.length ≤ 1000 := h40
  have hx := hLB.obx
  have e3 := hLB.e3
  obtain ⟨mc0, hT0⟩ := hLB.text
  have hsl := seg_len (t := t) hl hf
  refine BM.of rfl rfl rfl ?_
  (repeat (first | (refine BW.pl rfl rfl ?_) | (refine CW.geti rfl rfl (by assumption) rfl rfl (by assumption) (fun _ => ?_)) | (refine CW.getr rfl rfl (by assumption) rfl rfl (by assumption) ?_)))
  have eb : (f : Int) - 1 = ((f - 1 : Nat) : Int) := by omega
  rw [eb]
  refine CW.c2 rfl rfl (by first | exact Or.inl rfl | exact Or.inr (tagO (by assumption) (by rfl) (by rfl))) (by first | exact Or.inl (by decide) | exact Or.inr ⟨_, rfl, by assumption⟩) rfl (L_cur (V := V) hL (k := f - 1) (by omega) (by omega) (by omega) rfl hT0) ?_
  rintro r S1 ⟨it, rfl, hitk, hC, hF1⟩
  let PO : GO → BS → Prop := fun r S' => ∃ v, r = .inl v ∧ (v = none ∧ LO S' K la (sLeave (t, p, G) f l) (B + 17 + 10 * (l + 1 - f)) ∧ XF K V S S')
  have stay : ∀ (x : SLine) (ms dn : List SLine) (S2 : BS) (G1 : BG) (p1 B1 : Nat) (v4 : Option Nat) (nv : Int), inR nv → LC S S2 K la p1 G1 B1 it (dn.length + 1) (dn ++ [x]) (ms ++ t.drop l) V → (∀ S3 yy, Ob S3 yy (oStr x.2) → okS (some yy) → LC S S3 K la (dn.length + 1) G1 B1 it (dn.length + 1) (dn ++ [x]) (ms ++ t.drop l) V → BW (d + 7) gm_X1_leaveOut 38 [some (aR (K 1)), some (aI f), some (aI l), some (aR it), some (aR yy), some (aI nv), some (aR (la x.1))] [] S3 PO) → BW (d + 7) gm_X1_leaveOut 31 [some (aR (K 1)), some (aI f), some (aI l), some (aR it), some (.inr (.inr v4)), some (aI nv), some (aR (la x.1))] [] S2 PO := by
    intro x ms dn S2 G1 p1 B1 v4 nv hnv hC2 next
    have hx2 := hC2.lb.obx
    obtain ⟨mc, hT, hit⟩ := hC2.2.1
    obtain ⟨hxR, hx6, xr, x44, ⟨yy, rfl, hy⟩, hyk⟩ := hC2.rws x (by simp)
    have hlt := hC2.2.2.2.2.2
    have hdl : dn.length + 1 ≤ 10000 := by simp at hlt; omega
    (repeat (first | (refine BW.pl rfl rfl ?_) | (refine CW.geti rfl rfl (by assumption) rfl rfl (by assumption) (fun _ => ?_)) | (refine CW.getr rfl rfl (by assumption) rfl rfl (by assumption) ?_)))
    refine CW.e1 rfl rfl (by first | exact Or.inl rfl | exact Or.inr (tagO (by assumption) (by rfl) (by rfl))) (by first | exact Or.inl (by decide) | exact Or.inr ⟨_, rfl, by assumption⟩) rfl (hC2.idx) ?_
    have e1 : ((dn ++ [x]).length : Int) = ((dn.length + 1 : Nat) : Int) := by rw [List.length_append]; rfl
    rw [e1]
    first | (refine CW.putr rfl rfl (by assumption) rfl (by decide) (fun S3 hP3 h5 => ?_)) | (refine CW.puti rfl (by assumption) rfl (by decide) (by first | exact Or.inl ⟨rfl, by first | omega | decide | (constructor <;> first | omega | decide)⟩ | exact Or.inr (Or.inl ⟨rfl, by first | omega | decide | (constructor <;> first | omega | decide)⟩) | exact Or.inr (Or.inr (Or.inl ⟨rfl, by first | omega | decide | (constructor <;> first | omega | decide)⟩)) | exact Or.inr (Or.inr (Or.inr ⟨rfl, by first | omega | decide | (constructor <;> first | omega | decide)⟩))) (fun S3 hP3 h5 => ?_))
    exact next S3 yy (hy.pu hP3 trivial) hyk (hC2.pres hP3 h5 rfl)
  have loop : ∀ (ms dn : List SLine) (S1 : BS) (G1 : BG) (B1 lr yy : Nat) (sr : List Int) (v6 : Option GV), gn1 v6 = true → Ob S1 yy (oStr sr) → okS (some yy) → LC S S1 K la dn.length G1 B1 it lr dn (ms ++ t.drop l) V → B1 + 10 * ms.length ≤ B + 17 + 10 * (l + 1 - f) → ms.length ≤ l + 1 - f → (sLeave (t, p, G) f l = (dn ++ (sLess sr ms).1 ++ t.drop l, (dn ++ (sLess sr ms).1).length, setM G1 (unmL G1.2.2.2.1 (sLess sr ms).2))) → BW (d + 7) gm_X1_leaveOut 11 [some (aR (K 1)), some (aI f), some (aI l), some (aR it), some (aR yy), some (aI ((l : Int) + 1 - ms.length)), v6] [] S1 PO := by
    intro ms
    induction ms with
    | nil =>
      intro dn S1 G1 B1 lr yy sr v6 g6 hyy hyk hC hB1 hml hsp
      have e1 : (l : Int) + 1 - (([] : List SLine).length : Nat) = (l : Int) + 1 := by rw [List.length_nil]; omega
      rw [e1]
      (repeat (refine BW.pl rfl rfl ?_))
      refine BW.br rfl rfl (by first | omega | decide | (constructor <;> first | omega | decide)) (fun w => ?_) (fun w => by first | (exfalso; omega) | exact absurd w (by decide))
      have hB1 : B1 ≤ B + 17 + 10 * (l + 1 - f) := by simpa using hB1
      refine BW.ret rfl rfl ⟨_, rfl, rfl, ?_, hC.2.2.2.2.1⟩
      rw [hsp]
      show LO S1 K la (dn ++ [] ++ t.drop l, (dn ++ []).length, setM G1 (unmL G1.2.2.2.1 [])) _
      rw [unmL_nil, List.append_nil]
      exact hC.1.le hB1 (by omega)
    | cons x ms ih =>
      intro dn S1 G1 B1 lr yy sr v6 g6 hyy hyk hC hB1 hml hsp
      obtain ⟨mc, hT, hit⟩ := hC.2.1
      have hml2 : ms.length + 1 ≤ l + 1 - f := by simpa using hml
      have hB2 : B1 + 10 * (ms.length + 1) ≤ B + 17 + 10 * (l + 1 - f) := by simpa using hB1
      have e1 : (l : Int) + 1 - ((x :: ms).length : Nat) = (l : Int) - ms.length := by rw [List.length_cons]; omega
      rw [e1]
      have hC' : LC S S1 K la dn.length G1 B1 it lr dn (x :: (ms ++ t.drop l)) V := hC
      (repeat (refine BW.pl rfl rfl ?_))
      refine BW.br rfl rfl (by first | omega | decide | (constructor <;> first | omega | decide)) (fun w => by first | (exfalso; omega) | exact absurd w (by decide)) (fun w => ?_)
      (repeat (refine BW.pl rfl rfl ?_))
      refine CW.c1 rfl rfl (by first | exact Or.inl rfl | exact Or.inr (tagO (by assumption) (by rfl) (by rfl))) (by first | exact Or.inl (by decide) | exact Or.inr ⟨_, rfl, by assumption⟩) rfl (L_next hC') ?_
      rintro r S2 ⟨rfl, hC2, hF2⟩
      obtain ⟨hxR, hx6, xr, x44, ⟨y2, rfl, hy2⟩, hy2k⟩ := hC2.rws x (by simp)
      refine CW.castS rfl hx6 rfl rfl rfl ?_
      refine BW.strV rfl rfl (by simp only [List.all_cons, List.all_nil, g6]; rfl) ?_
      have hyy2 := hyy.fr hF2 ⟨oNe rfl, hyy.ne hit (oNe rfl)⟩
      (repeat (refine BW.pl rfl rfl ?_))
      refine CW.nul rfl rfl (fun n h => by cases h; rw [show S2.1 yy = _ from hyy2]; rfl) ?_
      (repeat (first | (refine BW.pl rfl rfl ?_) | (refine CW.geti rfl rfl (by assumption) rfl rfl (by assumption) (fun _ => ?_)) | (refine CW.getr rfl rfl (by assumption) rfl rfl (by assumption) ?_)))
      refine CW.e2 rfl rfl (by first | exact Or.inl rfl | exact Or.inr (tagO (by assumption) (by rfl) (by rfl))) (by first | exact Or.inl (by decide) | exact Or.inr ⟨_, rfl, by assumption⟩) rfl (C_seq hy2 hyy2 hy2k hyk) ?_
      have e4 : (l : Int) - (ms.length : Nat) + 1 = (l : Int) + 1 - (ms.length : Nat) := by omega
      by_cases z : x.2 = sr
      · rw [if_pos z]
        have e2 : sLess sr (x :: ms) = ((sLess sr ms).1, x.1 :: (sLess sr ms).2) := by
          conv => lhs; unfold sLess
          rw [if_pos z]
        refine BW.br rfl rfl (by first | omega | decide | (constructor <;> first | omega | decide)) (fun w2 => by first | (exfalso; omega) | exact absurd w2 (by decide)) (fun w2 => ?_)
        have hx2 := hC2.lb.obx
        (repeat (refine BW.pl rfl rfl ?_))
        refine CW.c2 rfl rfl (by first | exact Or.inl rfl | exact Or.inr (tagO (by assumption) (by rfl) (by rfl))) (by first | exact Or.inl (by decide) | exact Or.inr ⟨_, rfl, by assumption⟩) rfl (L_unmarkC hC2 (x := x) (by simp) (by omega)) ?_
        rintro r S3 ⟨rfl, hC3, hX23⟩
        obtain ⟨mc3, hT3, hit3⟩ := hC3.2.1
        have hyy3 : Ob S3 yy (oStr sr) := hX23.2.2 yy sr hyy2
        (repeat (refine BW.pl rfl rfl ?_))
        refine CW.c1 rfl rfl (by first | exact Or.inl rfl | exact Or.inr (tagO (by assumption) (by rfl) (by rfl))) (by first | exact Or.inl (by decide) | exact Or.inr ⟨_, rfl, by assumption⟩) rfl (L_rem hC3 (by omega)) ?_
        rintro r S4 ⟨rfl, hC4, hF4⟩
        have hyy4 : Ob S4 yy (oStr sr) := hyy3.fr hF4 ⟨oNe rfl, fun z => z.elim (hyy3.ne hT3 (oNe rfl)) (hyy3.ne hit3 (oNe rfl))⟩
        (iterate 3 (refine BW.pl rfl rfl ?_))
        rw [e4]
        exact ih dn S4 _ _ 0 yy sr _ rfl hyy4 hyk hC4 (by omega) (by omega) (by rw [hsp, e2]; show (_, _, setM G1 (unmL G1.2.2.2.1 (x.1 :: (sLess sr ms).2))) = _; rw [← unmL_cons]; rfl)
      · rw [if_neg z]
        have e2 : sLess sr (x :: ms) = (x :: (sLess x.2 ms).1, (sLess x.2 ms).2) := by
          conv => lhs; unfold sLess
          rw [if_neg z]
        refine BW.br rfl rfl (by first | omega | decide | (constructor <;> first | omega | decide)) (fun w2 => ?_) (fun w2 => by first | (exfalso; omega) | exact absurd w2 (by decide))
        refine stay x ms dn S2 G1 dn.length B1 (some yy) _ (by constructor <;> omega) hC2 (fun S3 y3 hy3 hy3k hC3 => ?_)
        (iterate 2 (refine BW.pl rfl rfl ?_))
        rw [e4]
        exact ih (dn ++ [x]) S3 _ _ _ y3 x.2 _ rfl hy3 hy3k (by rw [List.length_append]; exact hC3) (by omega) (by omega) (by rw [hsp, e2]; simp)
  (iterate 5 (refine BW.pl rfl rfl ?_))
  have es := seg_split hf (by omega) hl
  rw [es] at hC
  cases hseg : seg t f l with
  | nil => rw [hseg] at hsl; simp at hsl; omega
  | cons x ms =>
    rw [hseg] at hC hsl
    have hC' : LC S S1 K la p G (B + 17) it 0 (t.take (f - 1)) (x :: (ms ++ t.drop l)) V := hC
    have hsl2 : ms.length + 1 = l + 1 - f := by simpa using hsl
    obtain ⟨mc, hT, hit⟩ := hC.2.1
    (repeat (refine BW.pl rfl rfl ?_))
    refine BW.br rfl rfl (by first | omega | decide | (constructor <;> first | omega | decide)) (fun w => by first | (exfalso; omega) | exact absurd w (by decide)) (fun w => ?_)
    (repeat (refine BW.pl rfl rfl ?_))
    refine CW.c1 rfl rfl (by first | exact Or.inl rfl | exact Or.inr (tagO (by assumption) (by rfl) (by rfl))) (by first | exact Or.inl (by decide) | exact Or.inr ⟨_, rfl, by assumption⟩) rfl (L_next hC') ?_
    rintro r S2 ⟨rfl, hC2, hF2⟩
    obtain ⟨hxR, hx6, xr, x44, ⟨y2, rfl, hy2⟩, hy2k⟩ := hC2.rws x (by simp)
    refine CW.castS rfl hx6 rfl rfl rfl ?_
    (repeat (refine BW.pl rfl rfl ?_))
    refine CW.nul rfl rfl (fun n h => by cases h) ?_
    refine stay x ms (t.take (f - 1)) S2 G p (B + 17) none _ (by constructor <;> omega) hC2 (fun S3 y3 hy3 hy3k hC3 => ?_)
    (iterate 2 (refine BW.pl rfl rfl ?_))
    have e4 : (f : Int) + 1 = (l : Int) + 1 - (ms.length : Nat) := by omega
    rw [e4]
    refine loop ms (t.take (f - 1) ++ [x]) S3 G _ _ y3 x.2 _ rfl hy3 hy3k (by rw [List.length_append]; exact hC3) (by omega) (by omega) ?_
    show (t.take (f - 1) ++ (sLessL (seg t f l)).1 ++ t.drop l, f - 1 + (sLessL (seg t f l)).1.length, G.1, G.2.1, G.2.2.1, unmL G.2.2.2.1 (sLessL (seg t f l)).2, G.2.2.2.2.1, G.2.2.2.2.2) = _
    rw [hseg]
    show (t.take (f - 1) ++ (x :: (sLess x.2 ms).1) ++ t.drop l, f - 1 + (x :: (sLess x.2 ms).1).length, _) = (t.take (f - 1) ++ [x] ++ (sLess x.2 ms).1 ++ t.drop l, (t.take (f - 1) ++ [x] ++ (sLess x.2 ms).1).length, _)
    have ea : t.take (f - 1) ++ [x] ++ (sLess x.2 ms).1 = t.take (f - 1) ++ (x :: (sLess x.2 ms).1) := by simp
    rw [ea, List.length_append (as := t.take (f - 1)), List.length_take, Nat.min_eq_left (by omega)]
    rfl
theorem L_hold {mo : Bool} (hL : LB S K la ids p G B) (har : Ob S a (oRa 105 ys)) (hs : StrsIs S ys rows) (hao : KoM K a) (hG : G.1.length ≤ 40) (hrl : rows.length ≤ 100) (hB : B + 1000 ≤ 20000000) (hv : v = b2i mo) : BM (d + 7) gk_X1_hold [aR (K 1), aR a, aI v] S (fun r S' => if 40 < (if mo = true then G.1 else []).length + rows.length then ∃ S1, LB S1 K la ids p (setLs G 7 (if mo = true then G.1 else [])) (B + 1) ∧ XF K V S S1 ∧ Thr9 11 78 4 S1 r S' else r = .inl none ∧ LB S' K la ids p (setLs G 7 ((if mo = true then G.1 else []) ++ rows)) (B + 1 + rows.length) ∧ XF K V S S' ∧ ∃ c, Fr1 S S' (K 7) c) := by
  subst hv
  have hx := hL.obx
  have e7 := hL.e7
  have ht := hL.tt
  have hlen := hs.1
  refine BM.of rfl rfl rfl ?_
  -- from pc 5 on
  have fin : ∀ (h0 : List (List Int)) (S1 : BS), h0.length ≤ 40 → LB S1 K la ids p (setLs G 7 h0) (B + 1) → XF K V S S1 → (∃ c, Fr1 S S1 (K 7) c) → BW (d + 6) gm_X1_hold 5 [some (aR (K 1)), some (aR a), some (aI (b2i mo)), none] [] S1 (fun r S' => if 40 < h0.length + rows.length then ∃ S1, LB S1 K la ids p (setLs G 7 h0) (B + 1) ∧ XF K V S S1 ∧ Thr9 11 78 4 S1 r S' else r = .inl none ∧ LB S' K la ids p (setLs G 7 (h0 ++ rows)) (B + 1 + rows.length) ∧ XF K V S S' ∧ ∃ c, Fr1 S S' (K 7) c) := by
    intro h0 S1 hh0 hL1 hX1 hF1
    have hx1 := hL1.obx
    have e71 := hL1.e7
    have har1 := (hX1.ob har hao (oNe rfl) rfl).1
    have hs1 := hX1.strs hs
    obtain ⟨cap, xs, hob, hss, hcap⟩ := hL1.list (i := 7) (by decide)
    have hss : StrsIs S1 xs h0 := hss
    have hxl := hss.1
    (repeat (first | (refine BW.pl rfl rfl ?_) | (refine CW.geti rfl rfl (by assumption) rfl rfl (by assumption) (fun _ => ?_)) | (refine CW.getr rfl rfl (by assumption) rfl rfl (by assumption) ?_)))
    refine CW.e1 rfl rfl (by first | exact Or.inl rfl | exact Or.inr (tagO (by assumption) (by rfl) (by rfl))) (by first | exact Or.inl (by decide) | exact Or.inr ⟨_, rfl, by assumption⟩) rfl (B_alSize hob) ?_
    (repeat (refine BW.pl rfl rfl ?_))
    refine CW.alenR rfl har1 (fun _ => ?_)
    (repeat (refine BW.pl rfl rfl ?_))
    by_cases z : 40 < h0.length + rows.length
    · refine BW.br rfl rfl (by first | omega | decide | (constructor <;> first | omega | decide)) (fun w => ?_) (fun w => by first | (exfalso; omega) | exact absurd w (by decide))
      (repeat (refine BW.pl rfl rfl ?_))
      refine CW.need rfl rfl (by decide) rfl (Or.inl rfl) (by decide) rfl (fun w => absurd w (by decide)) (fun _ r9 S9 hT9 => ?_)
      rw [if_pos z]
      exact ⟨S1, hL1, hX1, hT9⟩
    · refine BW.br rfl rfl (by first | omega | decide | (constructor <;> first | omega | decide)) (fun w => by first | (exfalso; omega) | exact absurd w (by decide)) (fun w => ?_)
      (repeat (refine BW.pl rfl rfl ?_))
      refine CW.need rfl rfl (by decide) rfl (Or.inr rfl) (by decide) rfl (fun _ => ?_) (fun w => absurd w (by decide))
      refine BW.mono2 (fun r S' h => by rw [if_neg z]; exact h) ?_
      have loop : ∀ (n2 j : Nat) (S3 : BS), j + n2 = rows.length → LB S3 K la ids p (setLs G 7 (h0 ++ rows.take j)) (B + 1 + j) → XF K V S S3 → (∃ c, Fr1 S S3 (K 7) c) → BW (d + 6) gm_X1_hold 20 [some (aR (K 1)), some (aR a), some (aI (b2i mo)), some (aI j)] [] S3 (fun r S' => r = .inl none ∧ LB S' K la ids p (setLs G 7 (h0 ++ rows)) (B + 1 + rows.length) ∧ XF K V S S' ∧ ∃ c, Fr1 S S' (K 7) c) := by
        intro n2
        induction n2 with
        | zero =>
          intro j S3 hj hL3 hX3 hF3
          have har3 := (hX3.ob har hao (oNe rfl) rfl).1
          (repeat (refine BW.pl rfl rfl ?_))
          refine CW.alenR rfl har3 (fun _ => ?_)
          refine BW.br rfl rfl (by first | omega | decide | (constructor <;> first | omega | decide)) (fun w => ?_) (fun w => by first | (exfalso; omega) | exact absurd w (by decide))
          obtain rfl : j = rows.length := by omega
          rw [List.take_length] at hL3
          exact BW.ret rfl rfl ⟨rfl, hL3, hX3, hF3⟩
        | succ n2 ih =>
          intro j S3 hj hL3 hX3 hF3
          have hjl : j < rows.length := by omega
          have hx3 := hL3.obx
          have e73 := hL3.e7
          have ht3 := hL3.tt
          have har3 := (hX3.ob har hao (oNe rfl) rfl).1
          have hs3 := hX3.strs hs
          obtain ⟨⟨yy, hy1, hy2⟩, hyk⟩ := hs3.2 j hjl
          rw [hy1] at hyk
          obtain ⟨cap3, xs3, hob3, hss3, hcap3⟩ := hL3.list (i := 7) (by decide)
          have hss3 : StrsIs S3 xs3 (h0 ++ rows.take j) := hss3
          have hxl3 := hss3.1
          have hlj : (h0 ++ rows.take j).length = h0.length + j := by rw [List.length_append, List.length_take]; omega
          have et : h0 ++ rows.take j ++ [rows.getD j []] = h0 ++ rows.take (j + 1) := by
            rw [List.append_assoc, List.take_succ_eq_append_getElem hjl, List.getD_eq_getElem?_getD, List.getElem?_eq_getElem hjl]; rfl
          (repeat (refine BW.pl rfl rfl ?_))
          refine CW.alenR rfl har3 (fun _ => ?_)
          refine BW.br rfl rfl (by first | omega | decide | (constructor <;> first | omega | decide)) (fun w => by first | (exfalso; omega) | exact absurd w (by decide)) (fun w => ?_)
          (repeat (first | (refine BW.pl rfl rfl ?_) | (refine CW.geti rfl rfl (by assumption) rfl rfl (by assumption) (fun _ => ?_)) | (refine CW.getr rfl rfl (by assumption) rfl rfl (by assumption) ?_)))
          refine CW.aald rfl har3 ⟨by omega, by omega⟩ ?_
          have ej : ((j : Nat) : Int).toNat = j := by omega
          rw [ej, hy1]
          refine CW.c2 rfl rfl (by first | exact Or.inl rfl | exact Or.inr (tagO (by assumption) (by rfl) (by rfl))) (by first | exact Or.inl (by decide) | exact Or.inr ⟨_, rfl, by assumption⟩) rfl (C_alAdd hob3 (vOk_o hy2 rfl) (by omega) (by omega)) ?_
          rintro r S4 ⟨rfl, cap', hob4, hF4, hc1, hc2⟩
          have hn7 : NoS S3 (fun k => k = K 7) := NoS.one hob3 rfl
          have hL4 := hL3.setList (i := 7) (by decide) hob3 (rows := h0 ++ rows.take (j + 1)) hF4 LoX.k ⟨_, hob4, by rw [← et]; exact (hss3.fr hF4 hn7).app ⟨⟨yy, rfl, hy2.fr hF4 ⟨oNe rfl, hy2.ne hob3 (oNe rfl)⟩⟩, hyk⟩, by omega⟩ hc1 (by omega)
          have hX4 := hX3.f1 hF4 (fun _ => hL3.wk (by decide))
          obtain ⟨c3, hF3⟩ := hF3
          (iterate 3 (refine BW.pl rfl rfl ?_))
          exact ih (j + 1) S4 (by omega) hL4 hX4 ⟨_, hF3.tr hF4 (fun _ _ z => z)⟩
      (iterate 2 (refine BW.pl rfl rfl ?_))
      exact loop rows.length 0 S1 (Nat.zero_add _) (by rw [List.take_zero, List.append_nil]; exact hL1) hX1 hF1
  cases mo with
  | true =>
    (repeat (refine BW.pl rfl rfl ?_))
    refine BW.br rfl rfl (by first | omega | decide | (constructor <;> first | omega | decide)) (fun w => ?_) (fun w => by first | (exfalso; omega) | exact absurd w (by decide))
    have e0 : setLs G 7 G.1 = G := rfl
    exact fin G.1 S hG (by rw [e0]; exact hL.le (by omega) (by omega)) XF.rf ⟨0, Fr.rf⟩
  | false =>
    obtain ⟨cap, xs, hob, hss, hcap⟩ := hL.list (i := 7) (by decide)
    (repeat (refine BW.pl rfl rfl ?_))
    refine BW.br rfl rfl (by first | omega | decide | (constructor <;> first | omega | decide)) (fun w => by first | (exfalso; omega) | exact absurd w (by decide)) (fun w => ?_)
    (repeat (first | (refine BW.pl rfl rfl ?_) | (refine CW.geti rfl rfl (by assumption) rfl rfl (by assumption) (fun _ => ?_)) | (refine CW.getr rfl rfl (by assumption) rfl rfl (by assumption) ?_)))
    refine CW.c1 rfl rfl (by first | exact Or.inl rfl | exact Or.inr (tagO (by assumption) (by rfl) (by rfl))) (by first | exact Or.inl (by decide) | exact Or.inr ⟨_, rfl, by assumption⟩) rfl (C_alClr hob (by omega)) ?_
    rintro r S1 ⟨rfl, hob1, hF1⟩
    exact fin [] S1 (by simp) (hL.setList (i := 7) (by decide) hob (cap' := cap) (rows := []) (by rw [Nat.sub_self]; exact hF1) LoX.k ⟨[], hob1, StrsIs.nil, hcap⟩ (Nat.le_refl _) (by omega)) (XF.rf.f1 hF1 (fun _ => hL.wk (by decide))) ⟨1, hF1⟩
end LV
