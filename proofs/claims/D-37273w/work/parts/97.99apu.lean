-- C
set_option maxRecDepth 100000
/-! LINEORDERS: put; what matches leave -/
section PU
variable {d n m q i a y cap c1 c2 p B c k f e l u w yp : Nat} {S S' S0 S1 S2 : BS} {K : Nat → Nat} {s s2 z z2 z0 le pu row : List Int} {v nn : Int} {r : Option Nat} {Q : GO → BS → Prop} {od : SOrd0} {pt : SPat} {b g : MG}
/-- what a found place is worth -/
def FnOk (pt : SPat) (row : List Int) (from' : Nat) (R : Option (Nat × Nat × MG × MG)) : Prop := ∀ a e b g, R = some (a, e, b, g) → GOk (clo 0 pt.1) false b g e ∧ from' ≤ a ∧ a ≤ e ∧ e ≤ row.length
theorem mAt_ok {place : Nat} (hw : wfp 0 false pt.1) (hpl : place ≤ row.length) (h : mAt pt row place = some (e, b, g)) : GOk (clo 0 pt.1) false b g e ∧ place ≤ e ∧ e ≤ row.length := by
  unfold mAt at h
  split at h
  · cases h
  · obtain ⟨k, hk⟩ := fd_some h
    obtain ⟨j, hj⟩ := fd_some hk
    unfold mTry at hj
    cases hr : mRun row k j pt.1 0 place g0 g0 with
    | none => rw [hr] at hj; cases hj
    | some q =>
      rw [hr] at hj
      dsimp only at hj
      split at hj
      · cases hj
        exact mRun_ok _ 0 false 0 place g0 g0 hw ⟨fun n h1 h2 => by omega, fun z => by cases z⟩ hpl _ _ _ hr
      · cases hj
theorem mFrom_ok (hw : wfp 0 false pt.1) : ∀ (n place : Nat), n + place ≤ row.length + 1 → FnOk pt row place (mFrom pt row n place) := by
  intro n
  induction n with
  | zero => intro place _ a e b g h; cases h
  | succ n ih =>
    intro place hn a e b g h
    unfold mFrom at h
    cases hA : mAt pt row place with
    | none =>
      rw [hA] at h
      have := ih (place + 1) (by omega) a e b g h
      exact ⟨this.1, by omega, this.2.2.1, this.2.2.2⟩
    | some q =>
      obtain ⟨q1, q2, q3⟩ := q
      rw [hA] at h
      cases h
      have := mAt_ok hw (by omega) hA
      exact ⟨this.1, Nat.le_refl _, this.2.1, this.2.2⟩
theorem mFind_ok {place : Nat} (hw : wfp 0 false pt.1) (hp : place ≤ row.length + 1) : FnOk pt row place (mFind pt row place) := mFrom_ok hw _ _ (by omega)
theorem mNext_ok {e0 : Nat} (hw : wfp 0 false pt.1) (he : e0 ≤ row.length) : FnOk pt row e0 (mNext pt row e0) := by
  intro a e b g h
  unfold mNext at h
  have h2 : mFind pt row (e0 + 1) = some (a, e, b, g) → GOk (clo 0 pt.1) false b g e ∧ e0 ≤ a ∧ a ≤ e ∧ e ≤ row.length := fun z => by
    have := mFind_ok hw (by omega) a e b g z
    exact ⟨this.1, by omega, this.2.2.1, this.2.2.2⟩
  cases hA : mAt pt row e0 with
  | none => rw [hA] at h; exact h2 h
  | some q =>
    obtain ⟨q1, q2, q3⟩ := q
    rw [hA] at h
    dsimp only at h
    split at h
    · cases h
      have := mAt_ok hw he hA
      exact ⟨this.1, Nat.le_refl _, this.2.1, this.2.2⟩
    · exact h2 h
theorem sPut_len {c : Nat} : ∀ (x : Nat) (q : List Int), q.length ≤ x → (sPut row a e b g q).length ≤ row.length * q.length + q.length := by
  intro x
  induction x with
  | zero => intro q hq; rw [List.length_eq_zero_iff.mp (by omega : q.length = 0)]; exact Nat.zero_le _
  | succ x ih =>
    intro q hq
    cases q with
    | nil => exact Nat.zero_le _
    | cons c0 q =>
      have e0 : sPut row a e b g (c0 :: q) = if c0 = 38 then (row.drop a).take (e - a) ++ sPut row a e b g q
        else if c0 = 92 then (match q with
          | [] => []
          | y :: q => (row.drop (b (y - 48).toNat).toNat).take (g (y - 48).toNat - b (y - 48).toNat).toNat ++ sPut row a e b g q)
        else c0 :: sPut row a e b g q := by cases q <;> rfl
      rw [e0]
      simp only [List.length_cons] at hq ⊢
      rw [Nat.mul_add, Nat.mul_one]
      split
      · have := ih q (by omega)
        rw [List.length_append, List.length_take, List.length_drop]
        omega
      · split
        · cases q with
          | nil => simp
          | cons y q =>
            simp only [List.length_cons] at hq ⊢
            have := ih q (by omega)
            rw [List.length_append, List.length_take, List.length_drop, Nat.mul_add, Nat.mul_one]
            omega
        · have := ih q (by omega)
          simp only [List.length_cons]
          omega
theorem L_put (hx : Ob S n (oOwn 1)) (h15 : Fe S 15 n (some m)) (hm : Ob S m (oSb z0 cap)) (hq : Ob S q (oOwn 7)) (h52 : Fe S 52 q (some p)) (h53 : Fe S 53 q (some yp)) (hyp : Ob S yp (oStr pu)) (hp : Ob S p (oOwn 9)) (hf : FndIs S p pt y a e b g) (hy : Ob S y (oStr row)) (hcl : clo 0 pt.1 = c) (hc : c ≤ 2) (hok : putOk c pu) (hgo : GOk c false b g e) (hae : a ≤ e) (hel : e ≤ row.length) (hrl : row.length ≤ 30) (hl : z0.length + 31 * pu.length < 29000) : BMr (d + 7) gk_X1_put [aR n, aR q] S (fun r S' => r = none ∧ MdT S S' m cap (z0 ++ sPut row a e b g pu)) := by
  obtain ⟨f71, f72, f73, u, w, us, ws, f69, f70, ⟨fu, ful, fw, fwl⟩, fag⟩ := hf
  rw [hcl] at fag
  refine BM.of rfl rfl rfl ?_
  refine BW.strL hyp (fun hps => ?_)
  have loop : ∀ (x k : Nat) (S2 : BS) (c1 : Nat) (zz rest : List Int) (v4 v5 : Option GV), gn1 v4 = true → gn1 v5 = true → pu.drop k = rest → rest.length ≤ x → k ≤ pu.length → putOk c rest → zz.length + 31 * rest.length < 29000 → zz ++ sPut row a e b g rest = z0 ++ sPut row a e b g pu → Ob S2 m (oSb zz c1) → Fr1 S S2 m (3 * (c1 - cap)) → cap ≤ c1 → (c1 = cap ∨ c1 ≤ 2 * zz.length) → BW (d + 6) gm_X1_put 5 [some (aR n), some (aR q), some (aR p), some (aI k), v4, v5] [] S2 (fun r S' => ∃ v, r = .inl v ∧ (v = none ∧ MdT S S' m cap (z0 ++ sPut row a e b g pu))) := by
    intro x
    induction x with
    | zero =>
      intro k S2 c1 zz rest v4 v5 g4 g5 hd hrx hk hpo hzl he hm2 hF k1 k2
      obtain rfl : rest = [] := List.length_eq_zero_iff.mp (by omega)
      have hke : k = pu.length := by have := congrArg List.length hd; rw [List.length_drop, List.length_nil] at this; omega
      have hq2 := hq.fr hF ⟨oNe rfl, hq.ne hm (oNe rfl)⟩
      have h532 := h53.fr hF ⟨⟨hq.old (oNe rfl), by decide⟩, hq.ne hm (oNe rfl)⟩
      have hyp2 := hyp.fr hF ⟨oNe rfl, hyp.ne hm (oNe rfl)⟩
      (repeat (first | (refine BW.pl rfl rfl ?_) | (refine CW.geti rfl rfl (by assumption) rfl rfl (by assumption) (fun _ => ?_)) | (refine CW.getr rfl rfl (by assumption) rfl rfl (by assumption) ?_)))
      refine CW.e1 rfl rfl (by first | exact Or.inl rfl | exact Or.inr (tagO (by assumption) (by rfl) (by rfl))) (by first | exact Or.inl (by decide) | exact Or.inr ⟨_, rfl, by assumption⟩) rfl (B_slen hyp2) ?_
      refine BW.br rfl rfl (by first | omega | decide | (constructor <;> first | omega | decide)) (fun w => ?_) (fun w => by first | (exfalso; omega) | exact absurd w (by decide))
      have he : zz ++ [] = z0 ++ sPut row a e b g pu := he
      rw [List.append_nil] at he
      rw [← he]
      exact BW.ret rfl rfl ⟨_, rfl, rfl, c1, hm2, hF, k1, k2⟩
    | succ x ih =>
      intro k S2 c1 zz rest v4 v5 g4 g5 hd hrx hk hpo hzl he hm2 hF k1 k2
      have hx2 := hx.fr hF ⟨oNe rfl, hx.ne hm (oNe rfl)⟩
      have h152 := h15.fr hF ⟨⟨hx.old (oNe rfl), by decide⟩, hx.ne hm (oNe rfl)⟩
      have hq2 := hq.fr hF ⟨oNe rfl, hq.ne hm (oNe rfl)⟩
      have h532 := h53.fr hF ⟨⟨hq.old (oNe rfl), by decide⟩, hq.ne hm (oNe rfl)⟩
      have hyp2 := hyp.fr hF ⟨oNe rfl, hyp.ne hm (oNe rfl)⟩
      cases rest with
      | nil => exact ih k S2 c1 zz [] v4 v5 g4 g5 hd (Nat.zero_le _) hk hpo hzl he hm2 hF k1 k2
      | cons c0 q0 =>
        obtain ⟨hkl, hgd, hd1⟩ := drop_consP (z := 0) hd
        have gR := strG hps.2 k
        rw [hgd] at gR
        have ek : ((k : Nat) : Int).toNat = k := by omega
        have e0 : sPut row a e b g (c0 :: q0) = if c0 = 38 then (row.drop a).take (e - a) ++ sPut row a e b g q0
          else if c0 = 92 then (match q0 with
            | [] => []
            | y :: q => (row.drop (b (y - 48).toNat).toNat).take (g (y - 48).toNat - b (y - 48).toNat).toNat ++ sPut row a e b g q)
          else c0 :: sPut row a e b g q0 := by cases q0 <;> rfl
        have e1 : putOk c (c0 :: q0) = if c0 = 92 then (match q0 with
            | [] => False
            | y :: q => (49 ≤ y ∧ y ≤ 48 + (c : Int)) ∧ putOk c q)
          else (isChr c0 = true ∨ c0 = 38) ∧ putOk c q0 := by cases q0 <;> rfl
        rw [e0] at he
        rw [e1] at hpo
        simp only [List.length_cons] at hrx hzl
        have hp2 := hp.fr hF ⟨oNe rfl, hp.ne hm (oNe rfl)⟩
        have po : S.1 p ≠ oNil := hp.old (oNe rfl)
        have pm : Sep S (fun k => k = m) p := hp.ne hm (oNe rfl)
        have f712 := f71.fr hF ⟨⟨po, by decide⟩, pm⟩
        have f722 := f72.fr hF ⟨⟨po, by decide⟩, pm⟩
        have f732 := f73.fr hF ⟨⟨po, by decide⟩, pm⟩
        have f692 := f69.fr hF ⟨⟨po, by decide⟩, pm⟩
        have f702 := f70.fr hF ⟨⟨po, by decide⟩, pm⟩
        have fu2 := fu.fr hF ⟨oNe rfl, fu.ne hm (oNe rfl)⟩
        have fw2 := fw.fr hF ⟨oNe rfl, fw.ne hm (oNe rfl)⟩
        have hy2 := hy.fr hF ⟨oNe rfl, hy.ne hm (oNe rfl)⟩
        (repeat (first | (refine BW.pl rfl rfl ?_) | (refine CW.geti rfl rfl (by assumption) rfl rfl (by assumption) (fun _ => ?_)) | (refine CW.getr rfl rfl (by assumption) rfl rfl (by assumption) ?_)))
        refine CW.e1 rfl rfl (by first | exact Or.inl rfl | exact Or.inr (tagO (by assumption) (by rfl) (by rfl))) (by first | exact Or.inl (by decide) | exact Or.inr ⟨_, rfl, by assumption⟩) rfl (B_slen hyp2) ?_
        refine BW.br rfl rfl (by first | omega | decide | (constructor <;> first | omega | decide)) (fun w => by first | (exfalso; omega) | exact absurd w (by decide)) (fun w => ?_)
        (repeat (first | (refine BW.pl rfl rfl ?_) | (refine CW.geti rfl rfl (by assumption) rfl rfl (by assumption) (fun _ => ?_)) | (refine CW.getr rfl rfl (by assumption) rfl rfl (by assumption) ?_)))
        refine CW.e2 rfl rfl (by first | exact Or.inl rfl | exact Or.inr (tagO (by assumption) (by rfl) (by rfl))) (by first | exact Or.inl (by decide) | exact Or.inr ⟨_, rfl, by assumption⟩) rfl (B_schar hyp2 ⟨by omega, by omega⟩) ?_
        rw [ek, hgd]
        refine BW.stiV rfl rfl (by simp only [List.all_cons, List.all_nil, g4, g5]; rfl) ?_
        (iterate 2 (refine BW.pl rfl rfl ?_))
        by_cases z1 : c0 = 38
        · rw [if_pos z1] at he
          rw [if_neg (by omega)] at hpo
          refine BW.br rfl rfl (by first | omega | decide | (constructor <;> first | omega | decide)) (fun w2 => by first | (exfalso; omega) | exact absurd w2 (by decide)) (fun w2 => ?_)
          (repeat (first | (refine BW.pl rfl rfl ?_) | (refine CW.geti rfl rfl (by assumption) rfl rfl (by assumption) (fun _ => ?_)) | (refine CW.getr rfl rfl (by assumption) rfl rfl (by assumption) ?_)))
          refine CW.c4 rfl rfl (by first | exact Or.inl rfl | exact Or.inr (tagO (by assumption) (by rfl) (by rfl))) (by first | exact Or.inl (by decide) | exact Or.inr ⟨_, rfl, by assumption⟩) rfl (L_makeSigns (f := a) (e := e) hx2 h152 hm2 hy2 hae hel (by omega) rfl rfl) ?_
          rintro r S3 ⟨rfl, c2, hm3, hF3, k3, k4⟩
          have hlz : (zz ++ (row.drop a).take (e - a)).length = zz.length + (e - a) := by rw [List.length_append, List.length_take, List.length_drop]; omega
          (iterate 1 (refine BW.pl rfl rfl ?_))
          refine BW.incV rfl rfl rfl (by simp only [List.set, List.all_cons, List.all_nil, g5]; rfl) ?_
          (iterate 1 (refine BW.pl rfl rfl ?_))
          exact ih (k + 1) S3 c2 _ q0 _ v5 rfl g5 hd1 (by omega) hkl hpo.2 (by rw [hlz]; omega) (by rw [List.append_assoc]; exact he) hm3 ((hF.tr hF3 (fun _ _ z => z)).w (fun _ _ z => z) (by omega)) (by omega) (by rw [hlz]; omega)
        · rw [if_neg z1] at he
          refine BW.br rfl rfl (by first | omega | decide | (constructor <;> first | omega | decide)) (fun w2 => ?_) (fun w2 => by first | (exfalso; omega) | exact absurd w2 (by decide))
          (iterate 2 (refine BW.pl rfl rfl ?_))
          by_cases z2 : c0 = 92
          · rw [if_pos z2] at he hpo
            cases q0 with
            | nil => exact hpo.elim
            | cons y1 q1 =>
              obtain ⟨⟨hy49, hyc⟩, hpo⟩ := hpo
              have he : zz ++ ((row.drop (b (y1 - 48).toNat).toNat).take (g (y1 - 48).toNat - b (y1 - 48).toNat).toNat ++ sPut row a e b g q1) = z0 ++ sPut row a e b g pu := he
              obtain ⟨hkl1, hgd1, hd2⟩ := drop_consP (z := 0) hd1
              simp only [List.length_cons] at hrx hzl
              obtain ⟨gi, hgi⟩ : ∃ gi : Nat, y1 - 48 = gi := ⟨(y1 - 48).toNat, by omega⟩
              rw [hgi] at he
              have egi : ((gi : Nat) : Int).toNat = gi := by omega
              rw [egi] at he
              have hG := hgo.1 gi (by omega) (by omega)
              have hA := fag.1 gi (by omega) (by omega)
              refine BW.br rfl rfl (by first | omega | decide | (constructor <;> first | omega | decide)) (fun w3 => by first | (exfalso; omega) | exact absurd w3 (by decide)) (fun w3 => ?_)
              refine BW.incV rfl rfl rfl (by simp only [List.set, List.all_cons, List.all_nil, g5]; rfl) ?_
              have ek1 : ((k : Nat) : Int) + 1 = ((k + 1 : Nat) : Int) := by omega
              rw [ek1]
              (repeat (first | (refine BW.pl rfl rfl ?_) | (refine CW.geti rfl rfl (by assumption) rfl rfl (by assumption) (fun _ => ?_)) | (refine CW.getr rfl rfl (by assumption) rfl rfl (by assumption) ?_)))
              refine CW.e2 rfl rfl (by first | exact Or.inl rfl | exact Or.inr (tagO (by assumption) (by rfl) (by rfl))) (by first | exact Or.inl (by decide) | exact Or.inr ⟨_, rfl, by assumption⟩) rfl (B_schar hyp2 ⟨by omega, by omega⟩) ?_
              have ek2 : ((k + 1 : Nat) : Int).toNat = k + 1 := by omega
              rw [ek2, hgd1]
              (iterate 2 (refine BW.pl rfl rfl ?_))
              rw [hgi]
              refine BW.stiV rfl rfl (by simp only [List.set, List.all_cons, List.all_nil, g5]; rfl) ?_
              (repeat (first | (refine BW.pl rfl rfl ?_) | (refine CW.geti rfl rfl (by assumption) rfl rfl (by assumption) (fun _ => ?_)) | (refine CW.getr rfl rfl (by assumption) rfl rfl (by assumption) ?_)))
              refine CW.ialdV (k := gi) rfl fu2 (by omega) rfl hA.1 (fun _ => ?_)
              (repeat (first | (refine BW.pl rfl rfl ?_) | (refine CW.geti rfl rfl (by assumption) rfl rfl (by assumption) (fun _ => ?_)) | (refine CW.getr rfl rfl (by assumption) rfl rfl (by assumption) ?_)))
              refine CW.ialdV (k := gi) rfl fw2 (by omega) rfl hA.2 (fun _ => ?_)
              refine CW.c4 rfl rfl (by first | exact Or.inl rfl | exact Or.inr (tagO (by assumption) (by rfl) (by rfl))) (by first | exact Or.inl (by decide) | exact Or.inr ⟨_, rfl, by assumption⟩) rfl (L_makeSigns (f := (b gi).toNat) (e := (g gi).toNat) hx2 h152 hm2 hy2 (by omega) (by omega) (by omega) (by omega) (by omega)) ?_
              rintro r S3 ⟨rfl, c2, hm3, hF3, k3, k4⟩
              have eg : (g gi).toNat - (b gi).toNat = (g gi - b gi).toNat := by omega
              rw [eg] at hm3 k4
              have hlz : (zz ++ (row.drop (b gi).toNat).take (g gi - b gi).toNat).length = zz.length + (g gi - b gi).toNat := by rw [List.length_append, List.length_take, List.length_drop]; omega
              (iterate 3 (refine BW.pl rfl rfl ?_))
              exact ih (k + 1 + 1) S3 c2 _ q1 _ _ rfl rfl hd2 (by omega) hkl1 hpo (by rw [hlz]; omega) (by rw [List.append_assoc]; exact he) hm3 ((hF.tr hF3 (fun _ _ z => z)).w (fun _ _ z => z) (by omega)) (by omega) (by rw [hlz]; omega)
          · rw [if_neg z2] at he hpo
            refine BW.br rfl rfl (by first | omega | decide | (constructor <;> first | omega | decide)) (fun w3 => ?_) (fun w3 => by first | (exfalso; omega) | exact absurd w3 (by decide))
            (repeat (first | (refine BW.pl rfl rfl ?_) | (refine CW.geti rfl rfl (by assumption) rfl rfl (by assumption) (fun _ => ?_)) | (refine CW.getr rfl rfl (by assumption) rfl rfl (by assumption) ?_)))
            refine CW.c2 rfl rfl (by first | exact Or.inl rfl | exact Or.inr (tagO (by assumption) (by rfl) (by rfl))) (by first | exact Or.inl (by decide) | exact Or.inr ⟨_, rfl, by assumption⟩) rfl (C_sbAppC hm2 gR (by omega)) ?_
            rintro r S3 ⟨rfl, c2, hm3, hF3, k3, k4⟩
            rw [List.length_append, List.length_singleton] at k4
            (iterate 1 (refine BW.pl rfl rfl ?_))
            refine BW.incV rfl rfl rfl (by simp only [List.set, List.all_cons, List.all_nil, g5]; rfl) ?_
            (iterate 1 (refine BW.pl rfl rfl ?_))
            exact ih (k + 1) S3 c2 _ q0 _ v5 rfl g5 hd1 (by omega) hkl hpo.2 (by rw [List.length_append, List.length_singleton]; omega) (by rw [List.append_assoc]; exact he) hm3 ((hF.tr hF3 (fun _ _ z => z)).w (fun _ _ z => z) (by omega)) (by omega) (by rw [List.length_append, List.length_singleton]; omega)
  (iterate 5 (first | (refine BW.pl rfl rfl ?_) | (refine CW.geti rfl rfl (by assumption) rfl rfl (by assumption) (fun _ => ?_)) | (refine CW.getr rfl rfl (by assumption) rfl rfl (by assumption) ?_)))
  exact loop pu.length 0 S cap z0 pu none none rfl rfl List.drop_zero (Nat.le_refl _) (Nat.zero_le _) hok hl rfl hm (Fr.rf.w (fun _ _ z => z) (Nat.zero_le _)) (Nat.le_refl _) (Or.inl rfl)
end PU
