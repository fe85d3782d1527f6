-- C
set_option maxRecDepth 100000
/-! LINEORDERS: behindLabel -/
section BL
variable {d m tm en : Nat} {nr : Int} {S : BS} {Mm : Int → Option Nat} {lab : Option Nat}
/-- where a jump goes on, with the label's place told -/
def jmL : Option Nat → Nat ⊕ Nat
  | none => .inl 6
  | some k => .inr (k + 1)
def jmR (lab : Option Nat) (nr : Int) (en : Nat) : Nat ⊕ Nat := if nr = -1 then .inr en else jmL lab
def JmX (S : BS) (R : Nat ⊕ Nat) (r : GO) (S' : BS) : Prop := match R with
  | .inl w => Thr9 11 78 w S r S'
  | .inr v => r = .inl (vI v) ∧ S' = S
theorem L_behindLabel (hm : Ob S m (oOwn 7)) (h49 : Fi S 49 m nr) (hnr : -1 ≤ nr ∧ nr < 128) (hT : Ob S tm (oTm Mm)) (hM : 0 ≤ nr → Mm nr = lab.map (fun k => k + 128)) (hlab : ∀ k, lab = some k → k < 100) (hen : en < 1000) : BM (d + 6) gk_X1_behindLabel [aR m, aR tm, aI en] S (JmX S (jmR lab nr en)) := by
  refine BM.of rfl rfl rfl ?_
  (repeat (first | (refine BW.pl rfl rfl ?_) | (refine CW.geti rfl rfl (by assumption) rfl rfl (by assumption) (fun _ => ?_)) | (refine CW.getr rfl rfl (by assumption) rfl rfl (by assumption) ?_)))
  by_cases z : nr = -1
  · have e : jmR lab nr en = .inr en := if_pos z
    rw [e]
    refine BW.br rfl rfl (by first | omega | decide | (constructor <;> first | omega | decide)) (fun w => by first | (exfalso; omega) | exact absurd w (by decide)) (fun w => ?_)
    (repeat (refine BW.pl rfl rfl ?_))
    exact BW.irx rfl (Or.inl ⟨rfl, by constructor <;> omega⟩) ⟨rfl, rfl⟩
  · have hm1 := hM (by omega)
    have e : jmR lab nr en = jmL lab := if_neg z
    rw [e]
    refine BW.br rfl rfl (by first | omega | decide | (constructor <;> first | omega | decide)) (fun w => ?_) (fun w => by first | (exfalso; omega) | exact absurd w (by decide))
    (repeat (first | (refine BW.pl rfl rfl ?_) | (refine CW.geti rfl rfl (by assumption) rfl rfl (by assumption) (fun _ => ?_)) | (refine CW.getr rfl rfl (by assumption) rfl rfl (by assumption) ?_)))
    refine CW.e1 rfl rfl (by first | exact Or.inl rfl | exact Or.inr (tagO (by assumption) (by rfl) (by rfl))) (by first | exact Or.inl (by decide) | exact Or.inr ⟨_, rfl, by assumption⟩) rfl (B_intOf ⟨by omega, by omega⟩) ?_
    refine CW.e2 rfl rfl (by first | exact Or.inl rfl | exact Or.inr (tagO (by assumption) (by rfl) (by rfl))) (by first | exact Or.inl (by decide) | exact Or.inr ⟨_, rfl, by assumption⟩) rfl (C_tmGet hT ⟨by omega, by omega⟩ hm1) ?_
    cases lab with
    | none =>
      refine CW.castN rfl ?_
      (repeat (refine BW.pl rfl rfl ?_))
      refine CW.nul rfl rfl (fun n h => by cases h) ?_
      (repeat (refine BW.pl rfl rfl ?_))
      refine CW.need rfl rfl (by decide) rfl (Or.inl rfl) (by decide) rfl (fun w => absurd w (by decide)) (fun _ r9 S9 hT9 => ?_)
      exact hT9
    | some k =>
      have hk := hlab k rfl
      have hk2 : (0 : Int) ≤ (k : Int) ∧ (k : Int) < 128 := ⟨by omega, by omega⟩
      have ek : k + 128 = ((k : Int) + 128).toNat := by omega
      show BW (d + 5) gm_X1_behindLabel 11 _ [aR (k + 128)] S _
      rw [ek]
      refine BW.castK rfl hk2 rfl ?_
      (repeat (refine BW.pl rfl rfl ?_))
      refine BW.nulK rfl rfl hk2 ?_
      (repeat (refine BW.pl rfl rfl ?_))
      refine CW.need rfl rfl (by decide) rfl (Or.inr rfl) (by decide) rfl (fun _ => ?_) (fun w => absurd w (by decide))
      (repeat (refine BW.pl rfl rfl ?_))
      refine BW.intK rfl rfl (by decide) rfl hk2 ?_
      (repeat (refine BW.pl rfl rfl ?_))
      exact BW.irx rfl (Or.inl ⟨rfl, by constructor <;> omega⟩) ⟨rfl, rfl⟩
end BL
