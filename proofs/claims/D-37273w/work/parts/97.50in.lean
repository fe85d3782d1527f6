-- B
set_option maxRecDepth 100000
/-! Pattern's constructor -/
section IN
variable {d n : Nat} {H : Nat → Obj} {fi : Nat → Nat → Int} {fr : Nat → Nat → Option Nat} {t : Nat}
theorem B_patNew (hn : H n = oOwn 9) (h1000 : 1000 ≤ n) : BMr (d + 4) gk_X7_init [aR n] (H, fi, fr, t) (fun r S' => r = none ∧ ∃ q u w H1 H2, Free H fi fr q ∧ H1 = upH (upH H q (oRaw 16)) q (oAl [] 0) ∧ Free H1 fi (upR fr 66 n (some q)) u ∧ H2 = upH H1 u (oIa (List.replicate 3 0)) ∧ Free H2 fi (upR (upR fr 66 n (some q)) 69 n (some u)) w ∧ S' = (upH H2 w (oIa (List.replicate 3 0)), fi, upR (upR (upR fr 66 n (some q)) 69 n (some u)) 70 n (some w), t + (12 + 3) + (12 + 3) + (12 + 3))) := by
  refine BM.of rfl rfl rfl ?_
  (repeat (refine BW.pl rfl rfl ?_))
  refine BW.oini rfl h1000 (Nat.le_of_ble_eq_true rfl) ?_
  (repeat (refine BW.pl rfl rfl ?_))
  refine BW.newJ (L := 3) (c := 16) rfl rfl rfl (fun q hq => ?_)
  have hnq : n ≠ q := fun w => by rw [w, hq.2.1] at hn; exact absurd hn (oNe rfl)
  have hq1 := hq.1
  (repeat (refine BW.pl rfl rfl ?_))
  refine BW.c1 rfl rfl (by first | exact Or.inl rfl | exact Or.inr (tagH (by first | assumption | exact upH_eq | exact (upH_ne (by assumption)).trans (by assumption) | exact (upH_ne (Ne.symm (by assumption))).trans (by assumption)) (by rfl) (by rfl))) (by first | exact Or.inl (by decide) | exact Or.inr ⟨_, rfl, by assumption⟩) rfl (B_alNew (d := d) upH_eq) ?_
  rintro r S' ⟨rfl, rfl⟩
  have hn1 : upH (upH H q (oRaw 16)) q (oAl [] 0) n = oOwn 9 := (upH_ne hnq).trans ((upH_ne hnq).trans hn)
  (repeat (refine BW.pl rfl rfl ?_))
  first | (refine BW.putr rfl rfl (by first | assumption | exact upH_eq | exact (upH_ne (by assumption)).trans (by assumption) | exact (upH_ne (Ne.symm (by assumption))).trans (by assumption)) rfl (by decide) ?_) | (refine BW.putx rfl (by first | assumption | exact upH_eq | exact (upH_ne (by assumption)).trans (by assumption) | exact (upH_ne (Ne.symm (by assumption))).trans (by assumption)) rfl (by decide) (by first | exact Or.inl ⟨rfl, by first | omega | decide | (constructor <;> first | omega | decide)⟩ | exact Or.inr (Or.inl ⟨rfl, by first | omega | decide | (constructor <;> first | omega | decide)⟩) | exact Or.inr (Or.inr (Or.inl ⟨rfl, by first | omega | decide | (constructor <;> first | omega | decide)⟩)) | exact Or.inr (Or.inr (Or.inr ⟨rfl, by first | omega | decide | (constructor <;> first | omega | decide)⟩))) ?_)
  (repeat (refine BW.pl rfl rfl ?_))
  refine BW.arrI rfl rfl (by decide) (fun u hu => ?_)
  have hnu : n ≠ u := fun w => by rw [w, hu.2.1] at hn1; exact absurd hn1 (oNe rfl)
  have hn2 := (upH_ne (o := oIa (List.replicate (3 : Int).toNat 0)) hnu).trans hn1
  (repeat (refine BW.pl rfl rfl ?_))
  first | (refine BW.putr rfl rfl (by first | assumption | exact upH_eq | exact (upH_ne (by assumption)).trans (by assumption) | exact (upH_ne (Ne.symm (by assumption))).trans (by assumption)) rfl (by decide) ?_) | (refine BW.putx rfl (by first | assumption | exact upH_eq | exact (upH_ne (by assumption)).trans (by assumption) | exact (upH_ne (Ne.symm (by assumption))).trans (by assumption)) rfl (by decide) (by first | exact Or.inl ⟨rfl, by first | omega | decide | (constructor <;> first | omega | decide)⟩ | exact Or.inr (Or.inl ⟨rfl, by first | omega | decide | (constructor <;> first | omega | decide)⟩) | exact Or.inr (Or.inr (Or.inl ⟨rfl, by first | omega | decide | (constructor <;> first | omega | decide)⟩)) | exact Or.inr (Or.inr (Or.inr ⟨rfl, by first | omega | decide | (constructor <;> first | omega | decide)⟩))) ?_)
  (repeat (refine BW.pl rfl rfl ?_))
  refine BW.arrI rfl rfl (by decide) (fun w hw => ?_)
  have hnw : n ≠ w := fun z => by rw [z, hw.2.1] at hn2; exact absurd hn2 (oNe rfl)
  have hn3 := (upH_ne (o := oIa (List.replicate (3 : Int).toNat 0)) hnw).trans hn2
  (repeat (refine BW.pl rfl rfl ?_))
  first | (refine BW.putr rfl rfl (by first | assumption | exact upH_eq | exact (upH_ne (by assumption)).trans (by assumption) | exact (upH_ne (Ne.symm (by assumption))).trans (by assumption)) rfl (by decide) ?_) | (refine BW.putx rfl (by first | assumption | exact upH_eq | exact (upH_ne (by assumption)).trans (by assumption) | exact (upH_ne (Ne.symm (by assumption))).trans (by assumption)) rfl (by decide) (by first | exact Or.inl ⟨rfl, by first | omega | decide | (constructor <;> first | omega | decide)⟩ | exact Or.inr (Or.inl ⟨rfl, by first | omega | decide | (constructor <;> first | omega | decide)⟩) | exact Or.inr (Or.inr (Or.inl ⟨rfl, by first | omega | decide | (constructor <;> first | omega | decide)⟩)) | exact Or.inr (Or.inr (Or.inr ⟨rfl, by first | omega | decide | (constructor <;> first | omega | decide)⟩))) ?_)
  exact BW.ret rfl rfl ⟨_, rfl, rfl, q, u, w, _, _, hq, rfl, hu, rfl, hw, rfl⟩
end IN
