-- C
set_option maxRecDepth 100000
/-! LINEORDERS: a stream, made -/
section IN
variable {d n m q oq i a b e y cap c k j pl B : Nat} {S S' S0 S1 S2 : BS} {K : Nat → Nat} {la la' : Int → Nat} {A : St} {V : Nat → Prop} {v nn b1 x1 : Int} {r : Option Nat} {t : List SLine} {xs : List (Option Nat)}
theorem C_llNew (hn : Ob S n (oRaw 18)) : BMr (d + 4) gk_J3_init [aR n] S (fun r' S' => r' = none ∧ Ob S' n (oLl [] 0) ∧ Fr1 S S' n 0) := by
  obtain ⟨H, fi, fr, t⟩ := S
  exact BMr.mono (B_llNew (d := d) hn) (fun r S' ⟨h1, h2⟩ => ⟨h1, Fr.upE (S := (H, fi, fr, t)) (k := 0) (oNe rfl) h2⟩)
theorem L_streamNew (hL : LO S K la A B) (hm : Ob S q (oOwn 12)) (hmk : 1000 ≤ q) (hko : KoM K q) (hz : ∀ F, F < 91 → Fi S F q 0 ∧ Fe S F q none) (h40 : A.1.length ≤ 40) (hB : B + 200 ≤ 20000000) : BMr (d + 6) gk_X13_init [aR q, aR (K 1), aR oq] S (fun r S' => r = none ∧ Fr1 S S' q 140 ∧ ∃ ar pq dq mc, (KoM K ar ∧ KoM K pq ∧ KoM K dq) ∧ (S.1 ar = oNil ∧ S.1 pq = oNil ∧ S.1 dq = oNil) ∧ StO S' K la q oq ar pq dq A.1 ∧ Ob S' pq (oLl [] mc) ∧ Ob S' dq (oAd [] 17) ∧ Fi S' 83 q 0 ∧ Fi S' 84 q 0 ∧ Fi S' 88 q 0 ∧ Fi S' 89 q 0) := by
  obtain ⟨t, p, G⟩ := A
  have h40 : t.length ≤ 40 := h40
  have LW : LoW K S (fun k => k = q) := LoW.one hko hm (ownNe rfl) rfl
  have hmS := hm
  have hA := Fr.rf (S := S) (W := fun k => k = q)
  have h83 := (hz 83 (by decide)).1
  have h84 := (hz 84 (by decide)).1
  have h88 := (hz 88 (by decide)).1
  have h89 := (hz 89 (by decide)).1
  refine BM.of rfl rfl rfl ?_
  (repeat (refine BW.pl rfl rfl ?_))
  first | (refine CW.putr rfl rfl (by assumption) rfl (by decide) (fun S1 hP1 h90 => ?_)) | (refine CW.puti rfl (by assumption) rfl (by decide) (by first | exact Or.inl ⟨rfl, by first | omega | decide | (constructor <;> first | omega | decide)⟩ | exact Or.inr (Or.inl ⟨rfl, by first | omega | decide | (constructor <;> first | omega | decide)⟩) | exact Or.inr (Or.inr (Or.inl ⟨rfl, by first | omega | decide | (constructor <;> first | omega | decide)⟩)) | exact Or.inr (Or.inr (Or.inr ⟨rfl, by first | omega | decide | (constructor <;> first | omega | decide)⟩))) (fun S1 hP1 h90 => ?_))
  replace h83 := h83.pu hP1 (Or.inl (Nat.ne_of_beq_eq_false rfl))
  replace h84 := h84.pu hP1 (Or.inl (Nat.ne_of_beq_eq_false rfl))
  replace h88 := h88.pu hP1 (Or.inl (Nat.ne_of_beq_eq_false rfl))
  replace h89 := h89.pu hP1 (Or.inl (Nat.ne_of_beq_eq_false rfl))
  replace hm := hm.pu hP1 trivial
  replace hA := hA.f1 hP1.fr (fun _ => rfl)
  (repeat (refine BW.pl rfl rfl ?_))
  refine BW.oini rfl hmk (Nat.le_of_ble_eq_true rfl) ?_
  have hL1 := hL.fr hA LW (by omega)
  have hx1 := hL1.1.obx
  have e3 := hL1.1.e3
  obtain ⟨mc0, hT1⟩ := hL1.1.text
  have hl0 : (lsOf la (idsOfL t)).length = t.length := by rw [lsOf_len, ids_len]
  (repeat (first | (refine BW.pl rfl rfl ?_) | (refine CW.geti rfl rfl (by assumption) rfl rfl (by assumption) (fun _ => ?_)) | (refine CW.getr rfl rfl (by assumption) rfl rfl (by assumption) ?_)))
  refine CW.e1 rfl rfl (by first | exact Or.inl rfl | exact Or.inr (tagO (by assumption) (by rfl) (by rfl)) | exact Or.inr (tagO (AdrIs.ox (by assumption)) (by rfl) (by rfl)) | exact Or.inr (tagO (PatIs.ox (by assumption)) (by rfl) (by rfl)) | exact Or.inr (tagO (Or0.ox (by assumption)) (by rfl) (by rfl))) (by first | exact Or.inl (by decide) | exact Or.inr ⟨_, rfl, by assumption⟩) rfl (B_llSize hT1) ?_
  rw [hl0]
  refine CW.arrR rfl rfl rfl ⟨by omega, by omega⟩ (fun a S2 hNa => ?_)
  have hao := hL1.1.ko hNa.nil
  have haz : S.1 a = oNil := hA.nil hNa.nil
  replace h83 := h83.fr hNa.fr ⟨⟨hm.old (oNe rfl), Nat.le_of_ble_eq_true rfl⟩, Sep.no⟩
  replace h84 := h84.fr hNa.fr ⟨⟨hm.old (oNe rfl), Nat.le_of_ble_eq_true rfl⟩, Sep.no⟩
  replace h88 := h88.fr hNa.fr ⟨⟨hm.old (oNe rfl), Nat.le_of_ble_eq_true rfl⟩, Sep.no⟩
  replace h89 := h89.fr hNa.fr ⟨⟨hm.old (oNe rfl), Nat.le_of_ble_eq_true rfl⟩, Sep.no⟩
  replace h90 := h90.fr hNa.fr ⟨⟨hm.old (oNe rfl), Nat.le_of_ble_eq_true rfl⟩, Sep.no⟩
  replace hm := hm.fr hNa.fr ⟨oNe rfl, Sep.no⟩
  replace hA := hA.f0 hNa.fr
  have ha := hNa.ob
  have e0 : ((t.length : Int)).toNat = t.length := by omega
  rw [e0] at ha hA
  have hma : q ≠ a := fun z => hmS.old (oNe rfl) (by rw [z]; exact haz)
  first | (refine CW.putr rfl rfl (by assumption) rfl (by decide) (fun S3 hP3 h80 => ?_)) | (refine CW.puti rfl (by assumption) rfl (by decide) (by first | exact Or.inl ⟨rfl, by first | omega | decide | (constructor <;> first | omega | decide)⟩ | exact Or.inr (Or.inl ⟨rfl, by first | omega | decide | (constructor <;> first | omega | decide)⟩) | exact Or.inr (Or.inr (Or.inl ⟨rfl, by first | omega | decide | (constructor <;> first | omega | decide)⟩)) | exact Or.inr (Or.inr (Or.inr ⟨rfl, by first | omega | decide | (constructor <;> first | omega | decide)⟩))) (fun S3 hP3 h80 => ?_))
  replace h83 := h83.pu hP3 (Or.inl (Nat.ne_of_beq_eq_false rfl))
  replace h84 := h84.pu hP3 (Or.inl (Nat.ne_of_beq_eq_false rfl))
  replace h88 := h88.pu hP3 (Or.inl (Nat.ne_of_beq_eq_false rfl))
  replace h89 := h89.pu hP3 (Or.inl (Nat.ne_of_beq_eq_false rfl))
  replace h90 := h90.pu hP3 (Or.inl (Nat.ne_of_beq_eq_false rfl))
  replace hm := hm.pu hP3 trivial
  replace ha := ha.pu hP3 trivial
  replace hA := hA.f1 hP3.fr (fun _ => rfl)
  (iterate 1 (refine BW.pl rfl rfl ?_))
  refine CW.newJ (L := 4) (c := 18) rfl rfl rfl (fun pq S4 hN4 => ?_)
  have hpz : S.1 pq = oNil := hA.nil hN4.nil
  have hpo : KoM K pq := (hL.fr hA LW (by omega)).1.ko hN4.nil
  have hmp : q ≠ pq := fun z => hmS.old (oNe rfl) (by rw [z]; exact hpz)
  have hap : a ≠ pq := ha.neN hN4.nil (oNe rfl)
  replace h83 := h83.fr hN4.fr ⟨⟨hm.old (oNe rfl), Nat.le_of_ble_eq_true rfl⟩, Sep.no⟩
  replace h84 := h84.fr hN4.fr ⟨⟨hm.old (oNe rfl), Nat.le_of_ble_eq_true rfl⟩, Sep.no⟩
  replace h88 := h88.fr hN4.fr ⟨⟨hm.old (oNe rfl), Nat.le_of_ble_eq_true rfl⟩, Sep.no⟩
  replace h89 := h89.fr hN4.fr ⟨⟨hm.old (oNe rfl), Nat.le_of_ble_eq_true rfl⟩, Sep.no⟩
  replace h90 := h90.fr hN4.fr ⟨⟨hm.old (oNe rfl), Nat.le_of_ble_eq_true rfl⟩, Sep.no⟩
  replace h80 := h80.fr hN4.fr ⟨⟨hm.old (oNe rfl), Nat.le_of_ble_eq_true rfl⟩, Sep.no⟩
  replace hm := hm.fr hN4.fr ⟨oNe rfl, Sep.no⟩
  replace ha := ha.fr hN4.fr ⟨oNe rfl, Sep.no⟩
  replace hA := hA.f0 hN4.fr
  have hpq4 := hN4.ob
  have hpqk := hN4.1
  (repeat (refine BW.pl rfl rfl ?_))
  refine CW.c1 rfl rfl (by first | exact Or.inl rfl | exact Or.inr (tagO (by assumption) (by rfl) (by rfl)) | exact Or.inr (tagO (AdrIs.ox (by assumption)) (by rfl) (by rfl)) | exact Or.inr (tagO (PatIs.ox (by assumption)) (by rfl) (by rfl)) | exact Or.inr (tagO (Or0.ox (by assumption)) (by rfl) (by rfl))) (by first | exact Or.inl (by decide) | exact Or.inr ⟨_, rfl, by assumption⟩) rfl (C_llNew hpq4) ?_
  rintro r S5 ⟨rfl, hpq, hF5⟩
  replace h83 := h83.fr hF5 ⟨⟨hm.old (oNe rfl), Nat.le_of_ble_eq_true rfl⟩, (Sep.ne hmp)⟩
  replace h84 := h84.fr hF5 ⟨⟨hm.old (oNe rfl), Nat.le_of_ble_eq_true rfl⟩, (Sep.ne hmp)⟩
  replace h88 := h88.fr hF5 ⟨⟨hm.old (oNe rfl), Nat.le_of_ble_eq_true rfl⟩, (Sep.ne hmp)⟩
  replace h89 := h89.fr hF5 ⟨⟨hm.old (oNe rfl), Nat.le_of_ble_eq_true rfl⟩, (Sep.ne hmp)⟩
  replace h90 := h90.fr hF5 ⟨⟨hm.old (oNe rfl), Nat.le_of_ble_eq_true rfl⟩, (Sep.ne hmp)⟩
  replace h80 := h80.fr hF5 ⟨⟨hm.old (oNe rfl), Nat.le_of_ble_eq_true rfl⟩, (Sep.ne hmp)⟩
  replace hm := hm.fr hF5 ⟨oNe rfl, (Sep.ne hmp)⟩
  replace ha := ha.fr hF5 ⟨oNe rfl, (Sep.ne hap)⟩
  replace hA := hA.f1 hF5 (fun z => absurd hpz z)
  first | (refine CW.putr rfl rfl (by assumption) rfl (by decide) (fun S6 hP6 h81 => ?_)) | (refine CW.puti rfl (by assumption) rfl (by decide) (by first | exact Or.inl ⟨rfl, by first | omega | decide | (constructor <;> first | omega | decide)⟩ | exact Or.inr (Or.inl ⟨rfl, by first | omega | decide | (constructor <;> first | omega | decide)⟩) | exact Or.inr (Or.inr (Or.inl ⟨rfl, by first | omega | decide | (constructor <;> first | omega | decide)⟩)) | exact Or.inr (Or.inr (Or.inr ⟨rfl, by first | omega | decide | (constructor <;> first | omega | decide)⟩))) (fun S6 hP6 h81 => ?_))
  replace h83 := h83.pu hP6 (Or.inl (Nat.ne_of_beq_eq_false rfl))
  replace h84 := h84.pu hP6 (Or.inl (Nat.ne_of_beq_eq_false rfl))
  replace h88 := h88.pu hP6 (Or.inl (Nat.ne_of_beq_eq_false rfl))
  replace h89 := h89.pu hP6 (Or.inl (Nat.ne_of_beq_eq_false rfl))
  replace h90 := h90.pu hP6 (Or.inl (Nat.ne_of_beq_eq_false rfl))
  replace h80 := h80.pu hP6 (Or.inl (Nat.ne_of_beq_eq_false rfl))
  replace hm := hm.pu hP6 trivial
  replace ha := ha.pu hP6 trivial
  replace hpq := hpq.pu hP6 trivial
  replace hA := hA.f1 hP6.fr (fun _ => rfl)
  (iterate 1 (refine BW.pl rfl rfl ?_))
  refine CW.newJ (L := 3) (c := 15) rfl rfl rfl (fun dq S7 hN7 => ?_)
  have hdz : S.1 dq = oNil := hA.nil hN7.nil
  have hdo : KoM K dq := (hL.fr hA LW (by omega)).1.ko hN7.nil
  have hmd : q ≠ dq := fun z => hmS.old (oNe rfl) (by rw [z]; exact hdz)
  have had : a ≠ dq := ha.neN hN7.nil (oNe rfl)
  have hpd : pq ≠ dq := hpq.neN hN7.nil (oNe rfl)
  replace h83 := h83.fr hN7.fr ⟨⟨hm.old (oNe rfl), Nat.le_of_ble_eq_true rfl⟩, Sep.no⟩
  replace h84 := h84.fr hN7.fr ⟨⟨hm.old (oNe rfl), Nat.le_of_ble_eq_true rfl⟩, Sep.no⟩
  replace h88 := h88.fr hN7.fr ⟨⟨hm.old (oNe rfl), Nat.le_of_ble_eq_true rfl⟩, Sep.no⟩
  replace h89 := h89.fr hN7.fr ⟨⟨hm.old (oNe rfl), Nat.le_of_ble_eq_true rfl⟩, Sep.no⟩
  replace h90 := h90.fr hN7.fr ⟨⟨hm.old (oNe rfl), Nat.le_of_ble_eq_true rfl⟩, Sep.no⟩
  replace h80 := h80.fr hN7.fr ⟨⟨hm.old (oNe rfl), Nat.le_of_ble_eq_true rfl⟩, Sep.no⟩
  replace h81 := h81.fr hN7.fr ⟨⟨hm.old (oNe rfl), Nat.le_of_ble_eq_true rfl⟩, Sep.no⟩
  replace hm := hm.fr hN7.fr ⟨oNe rfl, Sep.no⟩
  replace ha := ha.fr hN7.fr ⟨oNe rfl, Sep.no⟩
  replace hpq := hpq.fr hN7.fr ⟨oNe rfl, Sep.no⟩
  replace hA := hA.f0 hN7.fr
  have hdq7 := hN7.ob
  have hdqk := hN7.1
  (repeat (refine BW.pl rfl rfl ?_))
  refine CW.c1 rfl rfl (by first | exact Or.inl rfl | exact Or.inr (tagO (by assumption) (by rfl) (by rfl)) | exact Or.inr (tagO (AdrIs.ox (by assumption)) (by rfl) (by rfl)) | exact Or.inr (tagO (PatIs.ox (by assumption)) (by rfl) (by rfl)) | exact Or.inr (tagO (Or0.ox (by assumption)) (by rfl) (by rfl))) (by first | exact Or.inl (by decide) | exact Or.inr ⟨_, rfl, by assumption⟩) rfl (C_adNew hdq7) ?_
  rintro r S8 ⟨rfl, hdq, hF8⟩
  replace h83 := h83.fr hF8 ⟨⟨hm.old (oNe rfl), Nat.le_of_ble_eq_true rfl⟩, (Sep.ne hmd)⟩
  replace h84 := h84.fr hF8 ⟨⟨hm.old (oNe rfl), Nat.le_of_ble_eq_true rfl⟩, (Sep.ne hmd)⟩
  replace h88 := h88.fr hF8 ⟨⟨hm.old (oNe rfl), Nat.le_of_ble_eq_true rfl⟩, (Sep.ne hmd)⟩
  replace h89 := h89.fr hF8 ⟨⟨hm.old (oNe rfl), Nat.le_of_ble_eq_true rfl⟩, (Sep.ne hmd)⟩
  replace h90 := h90.fr hF8 ⟨⟨hm.old (oNe rfl), Nat.le_of_ble_eq_true rfl⟩, (Sep.ne hmd)⟩
  replace h80 := h80.fr hF8 ⟨⟨hm.old (oNe rfl), Nat.le_of_ble_eq_true rfl⟩, (Sep.ne hmd)⟩
  replace h81 := h81.fr hF8 ⟨⟨hm.old (oNe rfl), Nat.le_of_ble_eq_true rfl⟩, (Sep.ne hmd)⟩
  replace hm := hm.fr hF8 ⟨oNe rfl, (Sep.ne hmd)⟩
  replace ha := ha.fr hF8 ⟨oNe rfl, (Sep.ne had)⟩
  replace hpq := hpq.fr hF8 ⟨oNe rfl, (Sep.ne hpd)⟩
  replace hA := hA.f1 hF8 (fun z => absurd hdz z)
  first | (refine CW.putr rfl rfl (by assumption) rfl (by decide) (fun S9 hP9 h82 => ?_)) | (refine CW.puti rfl (by assumption) rfl (by decide) (by first | exact Or.inl ⟨rfl, by first | omega | decide | (constructor <;> first | omega | decide)⟩ | exact Or.inr (Or.inl ⟨rfl, by first | omega | decide | (constructor <;> first | omega | decide)⟩) | exact Or.inr (Or.inr (Or.inl ⟨rfl, by first | omega | decide | (constructor <;> first | omega | decide)⟩)) | exact Or.inr (Or.inr (Or.inr ⟨rfl, by first | omega | decide | (constructor <;> first | omega | decide)⟩))) (fun S9 hP9 h82 => ?_))
  replace h83 := h83.pu hP9 (Or.inl (Nat.ne_of_beq_eq_false rfl))
  replace h84 := h84.pu hP9 (Or.inl (Nat.ne_of_beq_eq_false rfl))
  replace h88 := h88.pu hP9 (Or.inl (Nat.ne_of_beq_eq_false rfl))
  replace h89 := h89.pu hP9 (Or.inl (Nat.ne_of_beq_eq_false rfl))
  replace h90 := h90.pu hP9 (Or.inl (Nat.ne_of_beq_eq_false rfl))
  replace h80 := h80.pu hP9 (Or.inl (Nat.ne_of_beq_eq_false rfl))
  replace h81 := h81.pu hP9 (Or.inl (Nat.ne_of_beq_eq_false rfl))
  replace hm := hm.pu hP9 trivial
  replace ha := ha.pu hP9 trivial
  replace hpq := hpq.pu hP9 trivial
  replace hdq := hdq.pu hP9 trivial
  replace hA := hA.f1 hP9.fr (fun _ => rfl)
  (repeat (refine BW.pl rfl rfl ?_))
  first | (refine CW.putr rfl rfl (by assumption) rfl (by decide) (fun S10 hP10 h79 => ?_)) | (refine CW.puti rfl (by assumption) rfl (by decide) (by first | exact Or.inl ⟨rfl, by first | omega | decide | (constructor <;> first | omega | decide)⟩ | exact Or.inr (Or.inl ⟨rfl, by first | omega | decide | (constructor <;> first | omega | decide)⟩) | exact Or.inr (Or.inr (Or.inl ⟨rfl, by first | omega | decide | (constructor <;> first | omega | decide)⟩)) | exact Or.inr (Or.inr (Or.inr ⟨rfl, by first | omega | decide | (constructor <;> first | omega | decide)⟩))) (fun S10 hP10 h79 => ?_))
  replace h83 := h83.pu hP10 (Or.inl (Nat.ne_of_beq_eq_false rfl))
  replace h84 := h84.pu hP10 (Or.inl (Nat.ne_of_beq_eq_false rfl))
  replace h88 := h88.pu hP10 (Or.inl (Nat.ne_of_beq_eq_false rfl))
  replace h89 := h89.pu hP10 (Or.inl (Nat.ne_of_beq_eq_false rfl))
  replace h90 := h90.pu hP10 (Or.inl (Nat.ne_of_beq_eq_false rfl))
  replace h80 := h80.pu hP10 (Or.inl (Nat.ne_of_beq_eq_false rfl))
  replace h81 := h81.pu hP10 (Or.inl (Nat.ne_of_beq_eq_false rfl))
  replace h82 := h82.pu hP10 (Or.inl (Nat.ne_of_beq_eq_false rfl))
  replace hm := hm.pu hP10 trivial
  replace ha := ha.pu hP10 trivial
  replace hpq := hpq.pu hP10 trivial
  replace hdq := hdq.pu hP10 trivial
  replace hA := hA.f1 hP10.fr (fun _ => rfl)
  have hL10 := hL.fr hA LW (by omega)
  have hx10 := hL10.1.obx
  have e310 := hL10.1.e3
  obtain ⟨mc9, hT9⟩ := hL10.1.text
  (iterate 2 (refine BW.pl rfl rfl ?_))
  (repeat (first | (refine BW.pl rfl rfl ?_) | (refine CW.geti rfl rfl (by assumption) rfl rfl (by assumption) (fun _ => ?_)) | (refine CW.getr rfl rfl (by assumption) rfl rfl (by assumption) ?_)))
  refine CW.c1 rfl rfl (by first | exact Or.inl rfl | exact Or.inr (tagO (by assumption) (by rfl) (by rfl)) | exact Or.inr (tagO (AdrIs.ox (by assumption)) (by rfl) (by rfl)) | exact Or.inr (tagO (PatIs.ox (by assumption)) (by rfl) (by rfl)) | exact Or.inr (tagO (Or0.ox (by assumption)) (by rfl) (by rfl))) (by first | exact Or.inl (by decide) | exact Or.inr ⟨_, rfl, by assumption⟩) rfl (C_llIt hT9 (by rw [hl0]; omega)) ?_
  rintro r S11 ⟨it, rfl, hit0, hitk, hit, hF11⟩
  have hizS : S.1 it = oNil := hA.nil hit0
  replace h83 := h83.fr hF11 ⟨⟨hm.old (oNe rfl), Nat.le_of_ble_eq_true rfl⟩, Sep.no⟩
  replace h84 := h84.fr hF11 ⟨⟨hm.old (oNe rfl), Nat.le_of_ble_eq_true rfl⟩, Sep.no⟩
  replace h88 := h88.fr hF11 ⟨⟨hm.old (oNe rfl), Nat.le_of_ble_eq_true rfl⟩, Sep.no⟩
  replace h89 := h89.fr hF11 ⟨⟨hm.old (oNe rfl), Nat.le_of_ble_eq_true rfl⟩, Sep.no⟩
  replace h90 := h90.fr hF11 ⟨⟨hm.old (oNe rfl), Nat.le_of_ble_eq_true rfl⟩, Sep.no⟩
  replace h80 := h80.fr hF11 ⟨⟨hm.old (oNe rfl), Nat.le_of_ble_eq_true rfl⟩, Sep.no⟩
  replace h81 := h81.fr hF11 ⟨⟨hm.old (oNe rfl), Nat.le_of_ble_eq_true rfl⟩, Sep.no⟩
  replace h82 := h82.fr hF11 ⟨⟨hm.old (oNe rfl), Nat.le_of_ble_eq_true rfl⟩, Sep.no⟩
  replace h79 := h79.fr hF11 ⟨⟨hm.old (oNe rfl), Nat.le_of_ble_eq_true rfl⟩, Sep.no⟩
  replace hm := hm.fr hF11 ⟨oNe rfl, Sep.no⟩
  replace ha := ha.fr hF11 ⟨oNe rfl, Sep.no⟩
  replace hpq := hpq.fr hF11 ⟨oNe rfl, Sep.no⟩
  replace hdq := hdq.fr hF11 ⟨oNe rfl, Sep.no⟩
  replace hA := hA.f0 hF11
  have hT11 := hT9.fr hF11 ⟨oNe rfl, Sep.no⟩
  have ea0 : List.replicate t.length (none : Option Nat) = filA (lsOf la (idsOfL t)) 0 := by rw [filA_0, hl0]
  rw [ea0] at ha
  (iterate 1 (refine BW.pl rfl rfl ?_))
  have lines : ∀ (N j : Nat) (S2 : BS) (lr : Nat), j + N = t.length → Fr S S2 (fun k => k = q) 140 → Ob S2 q (oOwn 12) → Fe S2 90 q (some (K 1)) → Fe S2 80 q (some a) → Ob S2 a (oRa 106 (filA (lsOf la (idsOfL t)) j)) → Fe S2 81 q (some pq) → Ob S2 pq (oLl [] 0) → Fe S2 82 q (some dq) → Ob S2 dq (oAd [] 17) → Fe S2 79 q (some oq) → (Fi S2 83 q 0 ∧ Fi S2 84 q 0 ∧ Fi S2 88 q 0 ∧ Fi S2 89 q 0) → Ob S2 it (oIt (K 3) j mc9 lr) → Ob S2 (K 3) (oLl (lsOf la (idsOfL t)) mc9) → BW (d + 5) gm_X13_init 31 [some (aR q), some (aR (K 1)), some (aR oq), some (aI j), some (aR it)] [] S2 (fun r S' => ∃ v, r = .inl v ∧ v = none ∧ Fr1 S S' q 140 ∧ ∃ ar pq dq mc, (KoM K ar ∧ KoM K pq ∧ KoM K dq) ∧ (S.1 ar = oNil ∧ S.1 pq = oNil ∧ S.1 dq = oNil) ∧ StO S' K la q oq ar pq dq t ∧ Ob S' pq (oLl [] mc) ∧ Ob S' dq (oAd [] 17) ∧ Fi S' 83 q 0 ∧ Fi S' 84 q 0 ∧ Fi S' 88 q 0 ∧ Fi S' 89 q 0) := by
    intro N
    induction N with
    | zero =>
      intro j S2 lr hj hA2 hm2 g90 g80 ga g81 gp g82 gd g79 gz gi hT2
      have hjt : j = t.length := by omega
      have ea : filA (lsOf la (idsOfL t)) j = lsOf la (idsOfL t) := by rw [hjt, ← hl0, filA_end]
      rw [ea] at ga
      (repeat (refine BW.pl rfl rfl ?_))
      refine CW.e1 rfl rfl (by first | exact Or.inl rfl | exact Or.inr (tagO (by assumption) (by rfl) (by rfl)) | exact Or.inr (tagO (AdrIs.ox (by assumption)) (by rfl) (by rfl)) | exact Or.inr (tagO (PatIs.ox (by assumption)) (by rfl) (by rfl)) | exact Or.inr (tagO (Or0.ox (by assumption)) (by rfl) (by rfl))) (by first | exact Or.inl (by decide) | exact Or.inr ⟨_, rfl, by assumption⟩) rfl (B_itHas gi hT2 (by rw [hl0]; omega)) ?_
      rw [if_neg (by rw [hl0]; omega)]
      refine BW.br rfl rfl (by first | omega | decide | (constructor <;> first | omega | decide)) (fun w => ?_) (fun w => by first | (exfalso; omega) | exact absurd w (by decide))
      exact BW.ret rfl rfl ⟨_, rfl, rfl, hA2, a, pq, dq, 0, ⟨hao, hpo, hdo⟩, ⟨haz, hpz, hdz⟩, ⟨hm2, g79, g80, g81, g82, g90, ga⟩, gp, gd, gz⟩
    | succ N ih =>
      intro j S2 lr hj hA2 hm2 g90 g80 ga g81 gp g82 gd g79 gz gi hT2
      obtain ⟨z1, z2, z3, z4⟩ := gz
      have hjt : j < t.length := by omega
      have ej : ((j : Nat) : Int).toNat = j := by omega
      have hin : t.getD j (0, []) ∈ t := getD_mem hjt
      obtain ⟨hxR, hxo0, -⟩ := hL.2 _ hin
      generalize hxx : t.getD j (0, []) = x at hin hxR hxo0
      have hxo := hxo0.fr hA2 ⟨oNe rfl, LW.lin hxo0⟩
      have hg : (lsOf la (idsOfL t)).getD j none = some (la x.1) := lsOf_get (by rw [ids_len]; exact hjt) (by
        show (idsOfL t).getD j 0 = x.1
        rw [← hxx]; exact ids_get)
      have hal : (filA (lsOf la (idsOfL t)) j).length = t.length := by rw [filA_len (by rw [hl0]; omega), hl0]
      have s9 := hm2.old (oNe rfl)
      have hmi : q ≠ it := fun z => hmS.old (oNe rfl) (by rw [z]; exact hizS)
      (repeat (refine BW.pl rfl rfl ?_))
      refine CW.e1 rfl rfl (by first | exact Or.inl rfl | exact Or.inr (tagO (by assumption) (by rfl) (by rfl)) | exact Or.inr (tagO (AdrIs.ox (by assumption)) (by rfl) (by rfl)) | exact Or.inr (tagO (PatIs.ox (by assumption)) (by rfl) (by rfl)) | exact Or.inr (tagO (Or0.ox (by assumption)) (by rfl) (by rfl))) (by first | exact Or.inl (by decide) | exact Or.inr ⟨_, rfl, by assumption⟩) rfl (B_itHas gi hT2 (by rw [hl0]; omega)) ?_
      rw [if_pos (by rw [hl0]; omega)]
      refine BW.br rfl rfl (by first | omega | decide | (constructor <;> first | omega | decide)) (fun w => by first | (exfalso; omega) | exact absurd w (by decide)) (fun w => ?_)
      (repeat (first | (refine BW.pl rfl rfl ?_) | (refine CW.geti rfl rfl (by assumption) rfl rfl (by assumption) (fun _ => ?_)) | (refine CW.getr rfl rfl (by assumption) rfl rfl (by assumption) ?_)))
      refine CW.c1 rfl rfl (by first | exact Or.inl rfl | exact Or.inr (tagO (by assumption) (by rfl) (by rfl)) | exact Or.inr (tagO (AdrIs.ox (by assumption)) (by rfl) (by rfl)) | exact Or.inr (tagO (PatIs.ox (by assumption)) (by rfl) (by rfl)) | exact Or.inr (tagO (Or0.ox (by assumption)) (by rfl) (by rfl))) (by first | exact Or.inl (by decide) | exact Or.inr ⟨_, rfl, by assumption⟩) rfl (C_itNext gi hT2 (by rw [hl0]; omega) (by rw [hl0]; omega) hg) ?_
      rintro r S3 ⟨rfl, gi3, hF3⟩
      have hA3 : Fr S S3 (fun k => k = q) 140 := (hA2.tr hF3 (fun k hk z => absurd hizS (by rw [← z]; exact hk))).w (fun _ _ z => z) (Nat.le_refl _)
      have hm3 := hm2.fr hF3 ⟨oNe rfl, hmi⟩
      have hxo3 := hxo.fr hF3 ⟨oNe rfl, hxo.ne gi (oNe rfl)⟩
      have ga3 := ga.fr hF3 ⟨oNe rfl, ga.ne gi (oNe rfl)⟩
      have gp3 := gp.fr hF3 ⟨oNe rfl, gp.ne gi (oNe rfl)⟩
      have gd3 := gd.fr hF3 ⟨oNe rfl, gd.ne gi (oNe rfl)⟩
      have hT3 := hT2.fr hF3 ⟨oNe rfl, hT2.ne gi (oNe rfl)⟩
      have s93 := hm3.old (oNe rfl)
      refine CW.castS rfl hxo3 rfl rfl rfl ?_
      refine CW.aast rfl ga3 ⟨by omega, by omega⟩ (Or.inr ⟨_, rfl, by rw [show S3.1 (la x.1) = _ from hxo3]; rfl, Or.inl (by rw [show S3.1 (la x.1) = _ from hxo3]; rfl)⟩) (fun S4 ga4 hF4 => ?_)
      rw [ej, ← hg, filA_set (by rw [hl0]; exact hjt)] at ga4
      have hA4 : Fr S S4 (fun k => k = q) 140 := (hA3.tr hF4 (fun k hk z => absurd haz (by rw [← z]; exact hk))).w (fun _ _ z => z) (Nat.le_refl _)
      have tf : ∀ {f : Nat} {v : Int}, f < 91 → Fi S2 f q v → Fi S4 f q v := fun hf h => (h.fr hF3 ⟨⟨s9, hf⟩, hmi⟩).fr hF4 ⟨⟨s93, hf⟩, hma⟩
      have te : ∀ {f : Nat} {v : Option Nat}, f < 91 → Fe S2 f q v → Fe S4 f q v := fun hf h => (h.fr hF3 ⟨⟨s9, hf⟩, hmi⟩).fr hF4 ⟨⟨s93, hf⟩, hma⟩
      (iterate 2 (refine BW.pl rfl rfl ?_))
      exact ih (j + 1) S4 _ (by omega) hA4 (hm3.fr hF4 ⟨oNe rfl, hma⟩) (te (by decide) g90) (te (by decide) g80) ga4 (te (by decide) g81) (gp3.fr hF4 ⟨oNe rfl, gp3.ne ga3 (oNe rfl)⟩) (te (by decide) g82) (gd3.fr hF4 ⟨oNe rfl, gd3.ne ga3 (oNe rfl)⟩) (te (by decide) g79) ⟨tf (by decide) z1, tf (by decide) z2, tf (by decide) z3, tf (by decide) z4⟩ (gi3.fr hF4 ⟨oNe rfl, gi3.ne ga3 (oNe rfl)⟩) (hT3.fr hF4 ⟨oNe rfl, hT3.ne ga3 (oNe rfl)⟩)
  exact lines t.length 0 S11 0 (Nat.zero_add _) (hA.w (fun _ _ z => z) (by omega)) hm h90 h80 ha h81 hpq h82 hdq h79 ⟨h83, h84, h88, h89⟩ hit hT11
end IN
