-- C
set_option maxRecDepth 100000
/-! LINEORDERS: changeLines -/
section CL
variable {d n m q i a y cap c1 c2 cap' p B c k f e l u w yp pp it lr : Nat} {S S' S0 S1 S2 : BS} {K : Nat → Nat} {la : Int → Nat} {G : BG} {A : St} {F V : Nat → Prop} {s s2 z z2 row : List Int} {v nn : Int} {dn rs : List SLine} {x : SLine} {r : Option Nat} {Q : GO → BS → Prop} {od : SOrd0} {pt : SPat} {b g : MG} {o : Obj} {zz : Prop} {M : GMeth} {ls : GL} {st : List GV}
theorem BW.c261 (kk : Ob S 261 (oStr [32]) → BW d M i ls st S Q) : BW d M i ls st S Q := by
  rintro g ⟨ρ, ν, hR⟩
  exact kk ((hR.2.2.1 261 (by decide)).1.trans rfl) g ⟨ρ, ν, hR⟩
theorem sNum_dg (h : n < 100) : sNum n = dg n := by
  unfold sNum dg
  rw [if_neg (by omega), List.nil_append]
  by_cases z : n < 10
  · rw [if_neg (by omega), if_pos (by omega), List.nil_append, show n % 10 = n by omega]
  · rw [if_pos (by omega), if_neg (by omega)]
    show [48 + ((n / 10 % 10 : Nat) : Int), 48 + ((n % 10 : Nat) : Int)] = _
    rw [show n / 10 % 10 = n / 10 by omega]
    rfl
theorem L_tellC (hC : LC S0 S K la p G B it lr dn rs V) (hy : Ob S y (oStr s)) (hyk : okS (some y)) (ho : G.2.1.length ≤ 100) (hB : B + 1 ≤ 20000000) : BM (d + 8) gk_X1_tell [aR (K 1), aR y] S (fun r S' => if G.2.1.length = 100 then Thr9 11 78 4 S r S' else r = .inl none ∧ LC S0 S' K la p (setLs G 8 (G.2.1 ++ [s])) (B + 1) it lr dn rs V) := by
  obtain ⟨cap, xs, hob, _⟩ := hC.lb.list (i := 8) (by decide)
  refine BM.mono (L_tell (d := d) (V := V) hC.lb hy hyk ho hB) (fun r S' h => ?_)
  by_cases z : G.2.1.length = 100
  · rw [if_pos z] at h ⊢; exact h
  · rw [if_neg z] at h ⊢
    obtain ⟨h1, h2, h3, c, h4⟩ := h
    exact ⟨h1, hC.to h2 rfl h4 hob (oNe rfl) rfl rfl rfl h3⟩
/-- s, z, > and < -/
theorem L_linesC (hL : LO S K la A B) (hK : ∀ m, F m → KoM K m) (hO : Or0 S F zz q od) (hch : ChOk od) (hact : oAct od = 115 ∨ oAct od = 122 ∨ oAct od = 62 ∨ oAct od = 60) (hf : 1 ≤ f) (hfl : f ≤ l) (hl : l ≤ A.1.length) (h40 : A.1.length ≤ 40) (hnd : (idsOfL A.1).Nodup) (hrow : ∀ q ∈ A.1, q.2.length ≤ 30) (hB : B + 200000 ≤ 20000000) (hv : v = f) (hw : nn = l) : BM (d + 183) gk_X1_changeLines [aR (K 1), aR q, aI v, aI nn] S (ActX S K la A B 2600 2600 (fun _ => True) (sChange A od f l)) := by
  subst hv hw
  obtain ⟨t, p, G⟩ := A
  have hLB : LB S K la (idsOfL t) p G B := hL.1
  have hl : l ≤ t.length := hl
  have h40 : t.length ≤ 40 := h40
  have hnd : (idsOfL t).Nodup := hnd
  have hrow : ∀ q ∈ t, q.2.length ≤ 30 := hrow
  have hx := hLB.obx
  have e3 := hLB.e3
  have hsl := seg_len (t := t) hl hf
  have es := seg_split hf (by omega) hl
  have hlp : (t.take (f - 1)).length = f - 1 := by rw [List.length_take]; omega
  obtain ⟨mc0, hT0⟩ := hLB.text
  have eS : sChange (t, p, G) od f l = match sChgL od (seg t f l) G.2.2.2.2.2 with
    | none => .inl 4
    | some (q, rp1) => .inr (t.take (f - 1) ++ q ++ t.drop l, l, setRG G rp1) := rfl
  rw [eS]
  refine BM.of rfl rfl rfl ?_
  (repeat (first | (refine BW.pl rfl rfl ?_) | (refine CW.geti rfl rfl (by assumption) rfl rfl (by assumption) (fun _ => ?_)) | (refine CW.getr rfl rfl (by assumption) rfl rfl (by assumption) ?_)))
  have eb : (f : Int) - 1 = ((f - 1 : Nat) : Int) := by omega
  rw [eb]
  refine CW.c2 rfl rfl (by first | exact Or.inl rfl | exact Or.inr (tagO (by assumption) (by rfl) (by rfl))) (by first | exact Or.inl (by decide) | exact Or.inr ⟨_, rfl, by assumption⟩) rfl (L_cur (V := fun _ => True) hL (k := f - 1) (by omega) (by omega) (by omega) rfl hT0) ?_
  rintro r S1 ⟨it, rfl, hitk, hC, hF1⟩
  rw [es] at hC
  have loop : ∀ (ms acc dn : List SLine) (S2 : BS) (lr B2 : Nat) (rp : Bool) (v6 : Option GV), gn1 v6 = true → LC S S2 K la p (setRG G rp) B2 it lr dn (ms ++ t.drop l) (fun _ => True) → (idsOfL (dn ++ (ms ++ t.drop l))).Nodup → (∀ q ∈ ms, q.2.length ≤ 30) → dn = t.take (f - 1) ++ acc → acc.length + ms.length = l + 1 - f → B2 + 58 * ms.length ≤ B + 17 + 58 * 40 → (match sChgL od ms rp with
      | none => none
      | some (q, rp1) => some (acc ++ q, rp1)) = sChgL od (seg t f l) G.2.2.2.2.2 → BW (d + 182) gm_X1_changeLines 9 [some (aR (K 1)), some (aR q), some (aI f), some (aI l), some (aR it), some (aI ((f + acc.length : Nat) : Int)), v6] [] S2 (ActX S K la (t, p, G) B 2600 2600 (fun _ => True) (match sChgL od (seg t f l) G.2.2.2.2.2 with
    | none => .inl 4
    | some (q, rp1) => .inr (t.take (f - 1) ++ q ++ t.drop l, l, setRG G rp1))) := by
    intro ms
    induction ms with
    | nil =>
      intro acc dn S2 lr B2 rp v6 g6 hC2 hnd2 h30 hdn hal hB2 he
      have he : some (acc ++ [], rp) = sChgL od (seg t f l) G.2.2.2.2.2 := he
      have hal : acc.length + 0 = l + 1 - f := hal
      have hx2 := hC2.lb.obx
      rw [← he]
      (repeat (refine BW.pl rfl rfl ?_))
      refine BW.br rfl rfl (by first | omega | decide | (constructor <;> first | omega | decide)) (fun w => ?_) (fun w => by first | (exfalso; omega) | exact absurd w (by decide))
      (repeat (refine BW.pl rfl rfl ?_))
      first | (refine CW.putr rfl rfl (by assumption) rfl (by decide) (fun S3 hP3 h5 => ?_)) | (refine CW.puti rfl (by assumption) rfl (by decide) (by first | exact Or.inl ⟨rfl, by first | omega | decide | (constructor <;> first | omega | decide)⟩ | exact Or.inr (Or.inl ⟨rfl, by first | omega | decide | (constructor <;> first | omega | decide)⟩) | exact Or.inr (Or.inr (Or.inl ⟨rfl, by first | omega | decide | (constructor <;> first | omega | decide)⟩)) | exact Or.inr (Or.inr (Or.inr ⟨rfl, by first | omega | decide | (constructor <;> first | omega | decide)⟩))) (fun S3 hP3 h5 => ?_))
      have hC3 := hC2.pres hP3 h5 rfl
      have hL3 : LO S3 K la (dn ++ ([] ++ t.drop l), l, setRG G rp) B2 := hC3.1
      have hB2 : B2 + 0 ≤ B + 17 + 58 * 40 := hB2
      refine BW.ret rfl rfl ⟨rfl, la, ?_, hC3.2.2.2.2.1, LaE.rf⟩
      rw [hdn] at hL3
      have e1 : t.take (f - 1) ++ (acc ++ []) ++ t.drop l = t.take (f - 1) ++ acc ++ ([] ++ t.drop l) := by simp
      rw [e1]
      exact ⟨hL3.1.le (by omega) (by omega), hL3.2⟩
    | cons x ms ih =>
      intro acc dn S2 lr B2 rp v6 g6 hC2 hnd2 h30 hdn hal hB2 he
      have hC2 : LC S S2 K la p (setRG G rp) B2 it lr dn (x :: (ms ++ t.drop l)) (fun _ => True) := hC2
      simp only [List.length_cons] at hal hB2
      obtain ⟨mc, hT, hit⟩ := hC2.2.1
      (repeat (refine BW.pl rfl rfl ?_))
      refine BW.br rfl rfl (by first | omega | decide | (constructor <;> first | omega | decide)) (fun w => by first | (exfalso; omega) | exact absurd w (by decide)) (fun w => ?_)
      (repeat (refine BW.pl rfl rfl ?_))
      refine CW.c1 rfl rfl (by first | exact Or.inl rfl | exact Or.inr (tagO (by assumption) (by rfl) (by rfl))) (by first | exact Or.inl (by decide) | exact Or.inr ⟨_, rfl, by assumption⟩) rfl (L_next hC2) ?_
      rintro r S3 ⟨rfl, hC3, hF3⟩
      obtain ⟨hxR, hx6, xr, x44, ⟨y2, rfl, hy2⟩, hy2k⟩ := hC3.rws x (by simp)
      refine CW.castS rfl hx6 rfl rfl rfl ?_
      refine BW.strV rfl rfl (by simp only [List.all_cons, List.all_nil, g6]; rfl) ?_
      have hO3 := hO.xf hC3.2.2.2.2.1 hK
      have hq3 : Ob S3 q (oOwn 7) := hO3.2.1
      have h483 : Fi S3 48 q (oAct od) := hO3.2.2.2.2.2.1
      have hx3 := hC3.lb.obx
      (repeat (first | (refine BW.pl rfl rfl ?_) | (refine CW.geti rfl rfl (by assumption) rfl rfl (by assumption) (fun _ => ?_)) | (refine CW.getr rfl rfl (by assumption) rfl rfl (by assumption) ?_)))
      refine BW.br rfl rfl (by first | omega | decide | (constructor <;> first | omega | decide)) (fun w2 => ?_) (fun w2 => by first | (exfalso; omega) | exact absurd w2 (by decide))
      (repeat (first | (refine BW.pl rfl rfl ?_) | (refine CW.geti rfl rfl (by assumption) rfl rfl (by assumption) (fun _ => ?_)) | (refine CW.getr rfl rfl (by assumption) rfl rfl (by assumption) ?_)))
      refine BW.br rfl rfl (by first | omega | decide | (constructor <;> first | omega | decide)) (fun w3 => ?_) (fun w3 => by first | (exfalso; omega) | exact absurd w3 (by decide))
      (repeat (first | (refine BW.pl rfl rfl ?_) | (refine CW.geti rfl rfl (by assumption) rfl rfl (by assumption) (fun _ => ?_)) | (refine CW.getr rfl rfl (by assumption) rfl rfl (by assumption) ?_)))
      have e0 : sChgL od (x :: ms) rp = match sChg od x.2 with
        | none => none
        | some (r1, b) => match sChgL od ms (rp || b) with
          | none => none
          | some (q, rp1) => some ((x.1, r1) :: q, rp1) := by obtain ⟨x1, x2⟩ := x; rfl
      rw [e0] at he
      refine CW.x3 rfl rfl (by first | exact Or.inl rfl | exact Or.inr (tagO (by assumption) (by rfl) (by rfl))) (by first | exact Or.inl (by decide) | exact Or.inr ⟨_, rfl, by assumption⟩) rfl rfl (L_changed hC3 hK hO3 hch hact hy2 hy2k (h30 x List.mem_cons_self) (by omega)) ?_ ?_
      · rintro r S4 h4
        revert h4 he
        cases sChg od x.2 with
        | none =>
          rintro he ⟨S5, rp5, _, _, q9, e9, _⟩
          cases e9
        | some rb =>
          obtain ⟨r1, b⟩ := rb
          rintro he ⟨y4, e4, hy4, hyk4, hC4, hX4⟩
          cases e4
          have hC4 : LC S S4 K la p (setRG G (rp || b)) (B2 + 58) it (dn.length + 1) (dn ++ [x]) (ms ++ t.drop l) (fun _ => True) := hC4
          have hx64 := hC4.x6 (x := x) (by simp)
          first | (refine CW.putr rfl rfl (by assumption) rfl (by decide) (fun S5 hP5 h44 => ?_)) | (refine CW.puti rfl (by assumption) rfl (by decide) (by first | exact Or.inl ⟨rfl, by first | omega | decide | (constructor <;> first | omega | decide)⟩ | exact Or.inr (Or.inl ⟨rfl, by first | omega | decide | (constructor <;> first | omega | decide)⟩) | exact Or.inr (Or.inr (Or.inl ⟨rfl, by first | omega | decide | (constructor <;> first | omega | decide)⟩)) | exact Or.inr (Or.inr (Or.inr ⟨rfl, by first | omega | decide | (constructor <;> first | omega | decide)⟩))) (fun S5 hP5 h44 => ?_))
          have hnd3 : (idsOfL (dn ++ x :: (ms ++ t.drop l))).Nodup := hnd2
          rw [idsOfL_app, List.nodup_append] at hnd3
          have hnx : x.1 ∉ idsOfL (ms ++ t.drop l) := (List.nodup_cons.mp hnd3.2.1).1
          have hC5 := hC4.row hP5 h44 ⟨⟨y4, rfl, hy4⟩, hyk4⟩ ⟨fun z => hnd3.2.2 _ z _ List.mem_cons_self rfl, hnx⟩ trivial
          (iterate 2 (refine BW.pl rfl rfl ?_))
          have hln : ((f + acc.length : Nat) : Int) + 1 = ((f + (acc ++ [(x.1, r1)]).length : Nat) : Int) := by rw [List.length_append, List.length_singleton]; omega
          rw [hln]
          refine ih (acc ++ [(x.1, r1)]) (dn ++ [(x.1, r1)]) S5 _ (B2 + 58) (rp || b) _ rfl hC5 ?_ (fun q hq => h30 q (List.mem_cons_of_mem _ hq)) (by rw [hdn, List.append_assoc]) (by rw [List.length_append, List.length_singleton]; omega) (by omega) ?_
          · have : idsOfL (dn ++ [(x.1, r1)] ++ (ms ++ t.drop l)) = idsOfL (dn ++ x :: (ms ++ t.drop l)) := by rw [idsOfL_app, idsOfL_app, idsOfL_app]; simp [idsOfL]
            rw [this]
            exact hnd2
          · rw [← he]
            dsimp only
            cases sChgL od ms (rp || b) with
            | none => rfl
            | some w =>
              obtain ⟨w1, w2⟩ := w
              show some (acc ++ [(x.1, r1)] ++ w1, w2) = some (acc ++ (x.1, r1) :: w1, w2)
              rw [List.append_assoc]
              rfl
      · rintro E q9 S4 h4
        revert h4 he
        cases sChg od x.2 with
        | none =>
          rintro he ⟨S5, rp5, hC5, hX5, hT5⟩
          have he : none = sChgL od (seg t f l) G.2.2.2.2.2 := he
          rw [← he]
          exact ⟨S5, la, (dn ++ [x] ++ (ms ++ t.drop l), p, setRG (setRG G rp) rp5), hC5.lb.le (by omega) (by omega), hC5.2.2.2.2.1, LaE.rf, Int.le_refl _, ⟨[], by rw [List.append_nil]; rfl⟩, hT5⟩
        | some rb =>
          obtain ⟨r1, b⟩ := rb
          rintro he ⟨y4, e4, _⟩
          cases e4
  (iterate 3 (refine BW.pl rfl rfl ?_))
  have eG : setRG G G.2.2.2.2.2 = G := rfl
  refine loop (seg t f l) [] (t.take (f - 1)) S1 0 (B + 17) G.2.2.2.2.2 none rfl (by rw [eG]; exact hC) ?_ (fun q hq => hrow q (List.mem_of_mem_drop (List.mem_of_mem_take hq))) (List.append_nil _).symm (by rw [hsl]; exact Nat.zero_add _) (by rw [hsl]; omega) ?_
  · rw [← es, List.take_append_drop]; exact hnd
  · cases sChgL od (seg t f l) G.2.2.2.2.2 with
    | none => rfl
    | some w => rfl
end CL
