-- B
set_option maxRecDepth 100000
/-! more rules at the level of objects; the exceptions' constructor -/
theorem tagH {H : Nat → Obj} {n tag : Nat} {o : Obj} (h : H n = o) (h1 : ocls o = tag) (h2 : (o.1 == 0) = false) : ∃ m, some (aR n) = some (aR m) ∧ ocls (H m) = tag ∧ ((H m).1 == 0) = false := ⟨n, rfl, by rw [h]; exact h1, by rw [h]; exact h2⟩
section BX
variable {d i a n : Nat} {b : Int} {M : GMeth} {ls : GL} {st : List GV} {H : Nat → Obj} {fi : Nat → Nat → Int} {fr : Nat → Nat → Option Nat} {t : Nat} {S : BS} {Q : GO → BS → Prop} {g : GH} {ρ : Nat → Nat} {ν : Nat → List Nat}
theorem BW.oini (hC : M.2.2.1[i]? = some (66, a, b)) (hn : 1000 ≤ n) (hs : (st.map gcat).sum ≤ 8) (k : BW d M (i + 1) ls st S Q) : BW d M i ls (.inr (.inr (some n)) :: st) S Q := fun g hR => GW.oini hC hn hs (k g hR)
theorem BM.of {mid : Nat} {as : List GV} (hM : gmt[mid]? = some M) (h1 : g1s as = true) (hn : Nat.ble as.length M.1 = true) (h : BW d M 0 (as.map some ++ List.replicate (M.1 - as.length) none) [] S Q) : BM (d + 1) mid as S Q := fun g hR => GM.of hM h1 hn (h g hR)
theorem BM.ofl {mid : Nat} {as : List GV} (hM : gmt[mid]? = some M) (hn : Nat.ble (gslots as).length M.1 = true) (h : BW d M 0 (gentry M.1 as) [] S Q) : BM (d + 1) mid as S Q := fun g hR => GM.ofl hM hn (h g hR)
theorem BW.c0 {kind mid tag : Nat} {Q1 : Option GV → BS → Prop} (hC : M.2.2.1[i]? = some (60, a, b)) (hs : gsites[a]? = some (kind, mid, tag, 0)) (htag : tag = 0 ∨ ∃ n, (none : Option GV) = some (aR n) ∧ ocls (H n) = tag ∧ ((H n).1 == 0) = false) (hin : (kind ≠ 4 ∧ kind ≠ 11) ∨ ∃ n, (none : Option GV) = some (aR n) ∧ 1000 ≤ n) (hr : Nat.ble ((st.map gcat).sum) 8 = true) (h : BMr d mid [] (H, fi, fr, t) Q1) (k : ∀ r S', Q1 r S' → BW d M (i + 1) ls (r.toList ++ st) S' Q) : BW d M i ls (st) (H, fi, fr, t) Q := BW.cr (as := []) hC hs rfl rfl hr htag hin h k
theorem BW.c1 {kind mid tag : Nat} {v0 : GV} {Q1 : Option GV → BS → Prop} (hC : M.2.2.1[i]? = some (60, a, b)) (hs : gsites[a]? = some (kind, mid, tag, 1)) (htag : tag = 0 ∨ ∃ n, (some v0 : Option GV) = some (aR n) ∧ ocls (H n) = tag ∧ ((H n).1 == 0) = false) (hin : (kind ≠ 4 ∧ kind ≠ 11) ∨ ∃ n, (some v0 : Option GV) = some (aR n) ∧ 1000 ≤ n) (hr : Nat.ble ((st.map gcat).sum) 8 = true) (h : BMr d mid [v0] (H, fi, fr, t) Q1) (k : ∀ r S', Q1 r S' → BW d M (i + 1) ls (r.toList ++ st) S' Q) : BW d M i ls (v0 :: st) (H, fi, fr, t) Q := BW.cr (as := [v0]) hC hs rfl rfl hr htag hin h k
theorem BW.c2 {kind mid tag : Nat} {v0 v1 : GV} {Q1 : Option GV → BS → Prop} (hC : M.2.2.1[i]? = some (60, a, b)) (hs : gsites[a]? = some (kind, mid, tag, 2)) (htag : tag = 0 ∨ ∃ n, (some v0 : Option GV) = some (aR n) ∧ ocls (H n) = tag ∧ ((H n).1 == 0) = false) (hin : (kind ≠ 4 ∧ kind ≠ 11) ∨ ∃ n, (some v0 : Option GV) = some (aR n) ∧ 1000 ≤ n) (hr : Nat.ble ((st.map gcat).sum) 8 = true) (h : BMr d mid [v0, v1] (H, fi, fr, t) Q1) (k : ∀ r S', Q1 r S' → BW d M (i + 1) ls (r.toList ++ st) S' Q) : BW d M i ls (v1 :: v0 :: st) (H, fi, fr, t) Q := BW.cr (as := [v0, v1]) hC hs rfl rfl hr htag hin h k
theorem BW.c3 {kind mid tag : Nat} {v0 v1 v2 : GV} {Q1 : Option GV → BS → Prop} (hC : M.2.2.1[i]? = some (60, a, b)) (hs : gsites[a]? = some (kind, mid, tag, 3)) (htag : tag = 0 ∨ ∃ n, (some v0 : Option GV) = some (aR n) ∧ ocls (H n) = tag ∧ ((H n).1 == 0) = false) (hin : (kind ≠ 4 ∧ kind ≠ 11) ∨ ∃ n, (some v0 : Option GV) = some (aR n) ∧ 1000 ≤ n) (hr : Nat.ble ((st.map gcat).sum) 8 = true) (h : BMr d mid [v0, v1, v2] (H, fi, fr, t) Q1) (k : ∀ r S', Q1 r S' → BW d M (i + 1) ls (r.toList ++ st) S' Q) : BW d M i ls (v2 :: v1 :: v0 :: st) (H, fi, fr, t) Q := BW.cr (as := [v0, v1, v2]) hC hs rfl rfl hr htag hin h k
theorem BW.c4 {kind mid tag : Nat} {v0 v1 v2 v3 : GV} {Q1 : Option GV → BS → Prop} (hC : M.2.2.1[i]? = some (60, a, b)) (hs : gsites[a]? = some (kind, mid, tag, 4)) (htag : tag = 0 ∨ ∃ n, (some v0 : Option GV) = some (aR n) ∧ ocls (H n) = tag ∧ ((H n).1 == 0) = false) (hin : (kind ≠ 4 ∧ kind ≠ 11) ∨ ∃ n, (some v0 : Option GV) = some (aR n) ∧ 1000 ≤ n) (hr : Nat.ble ((st.map gcat).sum) 8 = true) (h : BMr d mid [v0, v1, v2, v3] (H, fi, fr, t) Q1) (k : ∀ r S', Q1 r S' → BW d M (i + 1) ls (r.toList ++ st) S' Q) : BW d M i ls (v3 :: v2 :: v1 :: v0 :: st) (H, fi, fr, t) Q := BW.cr (as := [v0, v1, v2, v3]) hC hs rfl rfl hr htag hin h k
theorem BW.c5 {kind mid tag : Nat} {v0 v1 v2 v3 v4 : GV} {Q1 : Option GV → BS → Prop} (hC : M.2.2.1[i]? = some (60, a, b)) (hs : gsites[a]? = some (kind, mid, tag, 5)) (htag : tag = 0 ∨ ∃ n, (some v0 : Option GV) = some (aR n) ∧ ocls (H n) = tag ∧ ((H n).1 == 0) = false) (hin : (kind ≠ 4 ∧ kind ≠ 11) ∨ ∃ n, (some v0 : Option GV) = some (aR n) ∧ 1000 ≤ n) (hr : Nat.ble ((st.map gcat).sum) 8 = true) (h : BMr d mid [v0, v1, v2, v3, v4] (H, fi, fr, t) Q1) (k : ∀ r S', Q1 r S' → BW d M (i + 1) ls (r.toList ++ st) S' Q) : BW d M i ls (v4 :: v3 :: v2 :: v1 :: v0 :: st) (H, fi, fr, t) Q := BW.cr (as := [v0, v1, v2, v3, v4]) hC hs rfl rfl hr htag hin h k
theorem BW.c6 {kind mid tag : Nat} {v0 v1 v2 v3 v4 v5 : GV} {Q1 : Option GV → BS → Prop} (hC : M.2.2.1[i]? = some (60, a, b)) (hs : gsites[a]? = some (kind, mid, tag, 6)) (htag : tag = 0 ∨ ∃ n, (some v0 : Option GV) = some (aR n) ∧ ocls (H n) = tag ∧ ((H n).1 == 0) = false) (hin : (kind ≠ 4 ∧ kind ≠ 11) ∨ ∃ n, (some v0 : Option GV) = some (aR n) ∧ 1000 ≤ n) (hr : Nat.ble ((st.map gcat).sum) 8 = true) (h : BMr d mid [v0, v1, v2, v3, v4, v5] (H, fi, fr, t) Q1) (k : ∀ r S', Q1 r S' → BW d M (i + 1) ls (r.toList ++ st) S' Q) : BW d M i ls (v5 :: v4 :: v3 :: v2 :: v1 :: v0 :: st) (H, fi, fr, t) Q := BW.cr (as := [v0, v1, v2, v3, v4, v5]) hC hs rfl rfl hr htag hin h k
/-- Throwable's and Exception's constructors: fields 36 to 39 of the new object -/
def excR (fr : Nat → Nat → Option Nat) (n : Nat) : Nat → Nat → Option Nat := upR (upR (upR (upR (upR (upR (upR fr 36 n (some n)) 37 n (some 336)) 38 n (some 337)) 37 n none) 39 n none) 36 n none) 38 n none
theorem B_thrInit {c : Nat} (hn : H n = oOwn c) (hc : c = 5 ∨ c = 11) (h1000 : 1000 ≤ n) : BMr (d + 1) gk_J16_init_3 [aR n, aQ none, aQ none, aI 0, aI 0] (H, fi, fr, t) (fun r S' => r = none ∧ S' = (H, fi, excR fr n, t)) := by
  refine BM.of rfl rfl rfl ?_
  have hP : ∀ {F i : Nat} {b : Int} {r : Option Nat} {M : GMeth} {ls : GL} {st : List GV} {fr : Nat → Nat → Option Nat} {Q : GO → BS → Prop}, M.2.2.1[i]? = some (8, F, b) → gfk F = 4 → ghas 5 F = true → ghas 11 F = true → F < 91 → BW d M (i + 1) ls st (H, fi, upR fr F n r, t) Q → BW d M i ls (.inr (.inr r) :: .inr (.inr (some n)) :: st) (H, fi, fr, t) Q := fun h1 h2 h3 h4 h5 k => by
    rcases hc with rfl | rfl
    · exact BW.putr h1 h2 hn h3 h5 k
    · exact BW.putr h1 h2 hn h4 h5 k
  (repeat (refine BW.pl rfl rfl ?_))
  refine BW.oini rfl h1000 (Nat.le_of_ble_eq_true rfl) ?_
  (repeat (refine BW.pl rfl rfl ?_))
  refine hP rfl rfl rfl rfl (by decide) ?_
  (repeat (refine BW.pl rfl rfl ?_))
  refine hP rfl rfl rfl rfl (by decide) ?_
  (repeat (refine BW.pl rfl rfl ?_))
  refine hP rfl rfl rfl rfl (by decide) ?_
  (repeat (refine BW.pl rfl rfl ?_))
  refine BW.br rfl rfl (by first | omega | decide | (constructor <;> first | omega | decide)) (fun z0 => ?_) (fun z0 => by first | (exfalso; omega) | exact absurd z0 (by decide))
  (repeat (refine BW.pl rfl rfl ?_))
  refine hP rfl rfl rfl rfl (by decide) ?_
  (repeat (refine BW.pl rfl rfl ?_))
  refine hP rfl rfl rfl rfl (by decide) ?_
  (repeat (refine BW.pl rfl rfl ?_))
  refine hP rfl rfl rfl rfl (by decide) ?_
  (repeat (refine BW.pl rfl rfl ?_))
  refine BW.br rfl rfl (by first | omega | decide | (constructor <;> first | omega | decide)) (fun z1 => by first | (exfalso; omega) | exact absurd z1 (by decide)) (fun z1 => ?_)
  (repeat (refine BW.pl rfl rfl ?_))
  refine hP rfl rfl rfl rfl (by decide) ?_
  (repeat (refine BW.pl rfl rfl ?_))
  exact BW.ret rfl rfl ⟨_, rfl, rfl, rfl⟩
end BX
