-- B
set_option maxRecDepth 100000
/-! constructors of the classes: Part, Address, Line, Reader, Order, Pattern -/
section IN
variable {d n : Nat} {H : Nat → Obj} {fi : Nat → Nat → Int} {fr : Nat → Nat → Option Nat} {t : Nat}
theorem B_partNew (hn : H n = oOwn 8) (h1000 : 1000 ≤ n) {k m z : Int} {x : Option Nat} (hk : inR k) (hm : inR m) (hz : z = 0 ∨ z = 1) : BMr (d + 1) gk_X8_init [aR n, aI k, aI m, aQ x, aI z] (H, fi, fr, t) (fun r S' => r = none ∧ S' = (H, upI (upI (upI fi 62 n k) 63 n m) 65 n z, upR fr 64 n x, t)) := by
  refine BM.of rfl rfl rfl ?_
  (repeat (refine BW.pl rfl rfl ?_))
  refine BW.oini rfl h1000 (Nat.le_of_ble_eq_true rfl) ?_
  (repeat (refine BW.pl rfl rfl ?_))
  first | (refine BW.putr rfl rfl (by first | assumption | exact upH_eq | exact (upH_ne (by assumption)).trans (by assumption) | exact (upH_ne (Ne.symm (by assumption))).trans (by assumption)) rfl (by decide) ?_) | (refine BW.putx rfl (by first | assumption | exact upH_eq | exact (upH_ne (by assumption)).trans (by assumption) | exact (upH_ne (Ne.symm (by assumption))).trans (by assumption)) rfl (by decide) (by first | exact Or.inl ⟨rfl, by first | omega | decide | (constructor <;> first | omega | decide)⟩ | exact Or.inr (Or.inl ⟨rfl, by first | omega | decide | (constructor <;> first | omega | decide)⟩) | exact Or.inr (Or.inr (Or.inl ⟨rfl, by first | omega | decide | (constructor <;> first | omega | decide)⟩)) | exact Or.inr (Or.inr (Or.inr ⟨rfl, by first | omega | decide | (constructor <;> first | omega | decide)⟩))) ?_)
  (repeat (refine BW.pl rfl rfl ?_))
  first | (refine BW.putr rfl rfl (by first | assumption | exact upH_eq | exact (upH_ne (by assumption)).trans (by assumption) | exact (upH_ne (Ne.symm (by assumption))).trans (by assumption)) rfl (by decide) ?_) | (refine BW.putx rfl (by first | assumption | exact upH_eq | exact (upH_ne (by assumption)).trans (by assumption) | exact (upH_ne (Ne.symm (by assumption))).trans (by assumption)) rfl (by decide) (by first | exact Or.inl ⟨rfl, by first | omega | decide | (constructor <;> first | omega | decide)⟩ | exact Or.inr (Or.inl ⟨rfl, by first | omega | decide | (constructor <;> first | omega | decide)⟩) | exact Or.inr (Or.inr (Or.inl ⟨rfl, by first | omega | decide | (constructor <;> first | omega | decide)⟩)) | exact Or.inr (Or.inr (Or.inr ⟨rfl, by first | omega | decide | (constructor <;> first | omega | decide)⟩))) ?_)
  (repeat (refine BW.pl rfl rfl ?_))
  first | (refine BW.putr rfl rfl (by first | assumption | exact upH_eq | exact (upH_ne (by assumption)).trans (by assumption) | exact (upH_ne (Ne.symm (by assumption))).trans (by assumption)) rfl (by decide) ?_) | (refine BW.putx rfl (by first | assumption | exact upH_eq | exact (upH_ne (by assumption)).trans (by assumption) | exact (upH_ne (Ne.symm (by assumption))).trans (by assumption)) rfl (by decide) (by first | exact Or.inl ⟨rfl, by first | omega | decide | (constructor <;> first | omega | decide)⟩ | exact Or.inr (Or.inl ⟨rfl, by first | omega | decide | (constructor <;> first | omega | decide)⟩) | exact Or.inr (Or.inr (Or.inl ⟨rfl, by first | omega | decide | (constructor <;> first | omega | decide)⟩)) | exact Or.inr (Or.inr (Or.inr ⟨rfl, by first | omega | decide | (constructor <;> first | omega | decide)⟩))) ?_)
  (repeat (refine BW.pl rfl rfl ?_))
  first | (refine BW.putr rfl rfl (by first | assumption | exact upH_eq | exact (upH_ne (by assumption)).trans (by assumption) | exact (upH_ne (Ne.symm (by assumption))).trans (by assumption)) rfl (by decide) ?_) | (refine BW.putx rfl (by first | assumption | exact upH_eq | exact (upH_ne (by assumption)).trans (by assumption) | exact (upH_ne (Ne.symm (by assumption))).trans (by assumption)) rfl (by decide) (by first | exact Or.inl ⟨rfl, by first | omega | decide | (constructor <;> first | omega | decide)⟩ | exact Or.inr (Or.inl ⟨rfl, by first | omega | decide | (constructor <;> first | omega | decide)⟩) | exact Or.inr (Or.inr (Or.inl ⟨rfl, by first | omega | decide | (constructor <;> first | omega | decide)⟩)) | exact Or.inr (Or.inr (Or.inr ⟨rfl, by first | omega | decide | (constructor <;> first | omega | decide)⟩))) ?_)
  exact BW.ret rfl rfl ⟨_, rfl, rfl, rfl⟩
theorem B_adrNew (hn : H n = oOwn 2) (h1000 : 1000 ≤ n) {k : Int} (hk : 0 ≤ k ∧ k < 65536) : BMr (d + 1) gk_X6_init [aR n, aI k] (H, fi, fr, t) (fun r S' => r = none ∧ S' = (H, upI fi 18 n k, fr, t)) := by
  refine BM.of rfl rfl rfl ?_
  (repeat (refine BW.pl rfl rfl ?_))
  refine BW.oini rfl h1000 (Nat.le_of_ble_eq_true rfl) ?_
  (repeat (refine BW.pl rfl rfl ?_))
  first | (refine BW.putr rfl rfl (by first | assumption | exact upH_eq | exact (upH_ne (by assumption)).trans (by assumption) | exact (upH_ne (Ne.symm (by assumption))).trans (by assumption)) rfl (by decide) ?_) | (refine BW.putx rfl (by first | assumption | exact upH_eq | exact (upH_ne (by assumption)).trans (by assumption) | exact (upH_ne (Ne.symm (by assumption))).trans (by assumption)) rfl (by decide) (by first | exact Or.inl ⟨rfl, by first | omega | decide | (constructor <;> first | omega | decide)⟩ | exact Or.inr (Or.inl ⟨rfl, by first | omega | decide | (constructor <;> first | omega | decide)⟩) | exact Or.inr (Or.inr (Or.inl ⟨rfl, by first | omega | decide | (constructor <;> first | omega | decide)⟩)) | exact Or.inr (Or.inr (Or.inr ⟨rfl, by first | omega | decide | (constructor <;> first | omega | decide)⟩))) ?_)
  exact BW.ret rfl rfl ⟨_, rfl, rfl, rfl⟩
theorem B_lineNew (hn : H n = oOwn 6) (h1000 : 1000 ≤ n) {k : Int} {x : Option Nat} (hk : inR k) : BMr (d + 1) gk_X12_init [aR n, aI k, aQ x] (H, fi, fr, t) (fun r S' => r = none ∧ S' = (H, upI fi 43 n k, upR fr 44 n x, t)) := by
  refine BM.of rfl rfl rfl ?_
  (repeat (refine BW.pl rfl rfl ?_))
  refine BW.oini rfl h1000 (Nat.le_of_ble_eq_true rfl) ?_
  (repeat (refine BW.pl rfl rfl ?_))
  first | (refine BW.putr rfl rfl (by first | assumption | exact upH_eq | exact (upH_ne (by assumption)).trans (by assumption) | exact (upH_ne (Ne.symm (by assumption))).trans (by assumption)) rfl (by decide) ?_) | (refine BW.putx rfl (by first | assumption | exact upH_eq | exact (upH_ne (by assumption)).trans (by assumption) | exact (upH_ne (Ne.symm (by assumption))).trans (by assumption)) rfl (by decide) (by first | exact Or.inl ⟨rfl, by first | omega | decide | (constructor <;> first | omega | decide)⟩ | exact Or.inr (Or.inl ⟨rfl, by first | omega | decide | (constructor <;> first | omega | decide)⟩) | exact Or.inr (Or.inr (Or.inl ⟨rfl, by first | omega | decide | (constructor <;> first | omega | decide)⟩)) | exact Or.inr (Or.inr (Or.inr ⟨rfl, by first | omega | decide | (constructor <;> first | omega | decide)⟩))) ?_)
  (repeat (refine BW.pl rfl rfl ?_))
  first | (refine BW.putr rfl rfl (by first | assumption | exact upH_eq | exact (upH_ne (by assumption)).trans (by assumption) | exact (upH_ne (Ne.symm (by assumption))).trans (by assumption)) rfl (by decide) ?_) | (refine BW.putx rfl (by first | assumption | exact upH_eq | exact (upH_ne (by assumption)).trans (by assumption) | exact (upH_ne (Ne.symm (by assumption))).trans (by assumption)) rfl (by decide) (by first | exact Or.inl ⟨rfl, by first | omega | decide | (constructor <;> first | omega | decide)⟩ | exact Or.inr (Or.inl ⟨rfl, by first | omega | decide | (constructor <;> first | omega | decide)⟩) | exact Or.inr (Or.inr (Or.inl ⟨rfl, by first | omega | decide | (constructor <;> first | omega | decide)⟩)) | exact Or.inr (Or.inr (Or.inr ⟨rfl, by first | omega | decide | (constructor <;> first | omega | decide)⟩))) ?_)
  exact BW.ret rfl rfl ⟨_, rfl, rfl, rfl⟩
theorem B_readNew (hn : H n = oOwn 10) (h1000 : 1000 ≤ n) {x : Option Nat} : BMr (d + 1) gk_X3_init [aR n, aQ x] (H, fi, fr, t) (fun r S' => r = none ∧ S' = (H, fi, upR fr 74 n x, t)) := by
  refine BM.of rfl rfl rfl ?_
  (repeat (refine BW.pl rfl rfl ?_))
  refine BW.oini rfl h1000 (Nat.le_of_ble_eq_true rfl) ?_
  (repeat (refine BW.pl rfl rfl ?_))
  first | (refine BW.putr rfl rfl (by first | assumption | exact upH_eq | exact (upH_ne (by assumption)).trans (by assumption) | exact (upH_ne (Ne.symm (by assumption))).trans (by assumption)) rfl (by decide) ?_) | (refine BW.putx rfl (by first | assumption | exact upH_eq | exact (upH_ne (by assumption)).trans (by assumption) | exact (upH_ne (Ne.symm (by assumption))).trans (by assumption)) rfl (by decide) (by first | exact Or.inl ⟨rfl, by first | omega | decide | (constructor <;> first | omega | decide)⟩ | exact Or.inr (Or.inl ⟨rfl, by first | omega | decide | (constructor <;> first | omega | decide)⟩) | exact Or.inr (Or.inr (Or.inl ⟨rfl, by first | omega | decide | (constructor <;> first | omega | decide)⟩)) | exact Or.inr (Or.inr (Or.inr ⟨rfl, by first | omega | decide | (constructor <;> first | omega | decide)⟩))) ?_)
  exact BW.ret rfl rfl ⟨_, rfl, rfl, rfl⟩
theorem B_ordNew (hn : H n = oOwn 7) (h1000 : 1000 ≤ n) : BMr (d + 4) gk_X4_init [aR n] (H, fi, fr, t) (fun r S' => r = none ∧ ∃ q, Free H fi fr q ∧ S' = (upH (upH H q (oRaw 16)) q (oAl [] 0), fi, upR fr 50 n (some q), t + (12 + 3))) := by
  refine BM.of rfl rfl rfl ?_
  (repeat (refine BW.pl rfl rfl ?_))
  refine BW.oini rfl h1000 (Nat.le_of_ble_eq_true rfl) ?_
  (repeat (refine BW.pl rfl rfl ?_))
  refine BW.newJ (L := 3) (c := 16) rfl rfl rfl (fun q hq => ?_)
  have hq1 := hq.1
  have hnq : n ≠ q := fun w => by rw [w, hq.2.1] at hn; exact absurd hn (oNe rfl)
  (repeat (refine BW.pl rfl rfl ?_))
  refine BW.c1 rfl rfl (by first | exact Or.inl rfl | exact Or.inr (tagH (by first | assumption | exact upH_eq | exact (upH_ne (by assumption)).trans (by assumption) | exact (upH_ne (Ne.symm (by assumption))).trans (by assumption)) (by rfl) (by rfl))) (by first | exact Or.inl (by decide) | exact Or.inr ⟨_, rfl, by assumption⟩) rfl (B_alNew (d := d) upH_eq) ?_
  rintro r S' ⟨rfl, rfl⟩
  have hn' : upH (upH H q (oRaw 16)) q (oAl [] 0) n = oOwn 7 := (upH_ne hnq).trans ((upH_ne hnq).trans hn)
  (repeat (refine BW.pl rfl rfl ?_))
  first | (refine BW.putr rfl rfl (by first | assumption | exact upH_eq | exact (upH_ne (by assumption)).trans (by assumption) | exact (upH_ne (Ne.symm (by assumption))).trans (by assumption)) rfl (by decide) ?_) | (refine BW.putx rfl (by first | assumption | exact upH_eq | exact (upH_ne (by assumption)).trans (by assumption) | exact (upH_ne (Ne.symm (by assumption))).trans (by assumption)) rfl (by decide) (by first | exact Or.inl ⟨rfl, by first | omega | decide | (constructor <;> first | omega | decide)⟩ | exact Or.inr (Or.inl ⟨rfl, by first | omega | decide | (constructor <;> first | omega | decide)⟩) | exact Or.inr (Or.inr (Or.inl ⟨rfl, by first | omega | decide | (constructor <;> first | omega | decide)⟩)) | exact Or.inr (Or.inr (Or.inr ⟨rfl, by first | omega | decide | (constructor <;> first | omega | decide)⟩))) ?_)
  exact BW.ret rfl rfl ⟨_, rfl, rfl, q, hq, rfl⟩
end IN
