/-! CONTRACTS of the component: isWay, under frames -/
section C0F
variable {d : Nat} {μ μ0 ν : tm_M} {W : Int → Int → Prop}
theorem tWs_VC {A : List Int} {B : List (Int × Int)} (h : ((A.all (fun q => !decide (q = 6)) && B.all (fun q => !decide (q.1 = 6))) && (A.all (fun q => !decide (q = 1)) && B.all (fun q => !decide (q = (1, 9))))) = true) : y_VC (tWs A B) := by
  rw [Bool.and_eq_true] at h
  exact ⟨fun j => tWs_no j h.1, tWs_noF h.2⟩
theorem tWf_VC {A : List Int} {B : List (Int × Int)} {f : Int} (hf : dyA f ∧ tm_k μ f = 20) (h : ((A.all (fun q => !decide (q = 6)) && B.all (fun q => !decide (q.1 = 6))) && (A.all (fun q => !decide (q = 1)) && B.all (fun q => !decide (q = (1, 9))))) = true) : y_VC (tWf A B f) := by
  have k := tWs_VC h
  have := hf.1
  unfold dyA at this
  exact ⟨fun j q => by rcases q with q | q; exact k.1 j q; omega, fun q => by rcases q with q | q; exact k.2 q; omega⟩
theorem tW1_VC {w : Int} (hw : 7 ≤ w ∧ w ≤ 9) : y_VC (tWs [w] []) := ⟨fun j => tW1_no (by omega), tW1_no (by omega)⟩
theorem pX0_isWay {w : Int} (hs : tFr W μ0 μ) (hT : y_TC (c_FA μ0) W) (hV : JV μ0 ν) (hC : y_VC W := by first | exact tWs_VC rfl | exact tWf_VC (by assumption) rfl) : cI w0 mX0_isWay d [(2, 1), (1, w)] μ (fun r _ => r = b2i (0 ≤ w ∧ w < tm_v ν 65 43)) := by
  rw [← hV.2.1, ← hs.v hC.2]
  exact pX0_isWay0 hs.S
end C0F
