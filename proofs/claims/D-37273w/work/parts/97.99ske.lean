-- C
set_option maxRecDepth 100000
/-! constants of Integer taken out of a map -/
section KE
variable {d i a : Nat} {b1 k : Int} {M : GMeth} {ls : GL} {st : List GV} {S : BS} {Q : GO → BS → Prop}
theorem key_cl {g : GH} (hW : GWf g) (hk : 0 ≤ k ∧ k < 128) : gcls g (k + 128).toNat = 23 := (key_is hW hk).1
theorem BW.castK (hC : M.2.2.1[i]? = some (50, a, b1)) (hk : 0 ≤ k ∧ k < 128) (hc : (gcasts.getD a []).contains 23 = true) (kk : BW d M (i + 1) ls (.inr (.inr (some (k + 128).toNat)) :: st) S Q) : BW d M i ls (.inr (.inr (some (k + 128).toNat)) :: st) S Q := fun g hR => GW.wf (fun hW => GW.cast hC (Or.inr ⟨by rw [show gcls g ((some (k + 128).toNat).getD 0) = 23 from key_cl hW hk]; exact hc, Or.inl (by rw [show gcls g ((some (k + 128).toNat).getD 0) = 23 from key_cl hW hk]; decide)⟩) (kk g hR))
theorem BW.nulK {op i' : Nat} (hC : M.2.2.1[i]? = some (op, a, b1)) (h : gnl9 op a i (some (k + 128).toNat) = some i') (hk : 0 ≤ k ∧ k < 128) (kk : BW d M i' ls st S Q) : BW d M i ls (.inr (.inr (some (k + 128).toNat)) :: st) S Q := fun g hR => GW.wf (fun hW => GW.nul hC h (gok_c (by rw [key_cl hW hk]; decide)) (kk g hR))
theorem BW.intK {kind : Nat} (hC : M.2.2.1[i]? = some (60, a, b1)) (hs : gsites[a]? = some (kind, gk_J24_intValue, 23, 1)) (hin : kind ≠ 4 ∧ kind ≠ 11) (hr : Nat.ble ((st.map gcat).sum) 8 = true) (hk : 0 ≤ k ∧ k < 128) (kk : BW (d + 1) M (i + 1) ls (.inl k :: st) S Q) : BW (d + 1) M i ls (.inr (.inr (some (k + 128).toNat)) :: st) S Q := fun g hR => GW.wf (fun hW => GW.c1 hC hs (Or.inr (grecv_c (key_cl hW hk))) (Or.inl hin) hr (G_intV (key_is hW hk)) (fun r g' z => by obtain ⟨rfl, rfl⟩ := z; exact kk g hR))
end KE
