/-! what a throw of the machine's asks: words, statics of Throwable -/
def nRT : String := "java/lang/RuntimeException"
def nEx : String := "java/lang/Exception"
def nNAS : String := "java/lang/NegativeArraySizeException"
def nNPE : String := "java/lang/NullPointerException"
def nCCE : String := "java/lang/ClassCastException"
def nAIO : String := "java/lang/ArrayIndexOutOfBoundsException"
def nIOB : String := "java/lang/IndexOutOfBoundsException"
def nTh : String := "java/lang/Throwable"
def dSt : String := "(Ljava/lang/String;)V"
/-- the words that do not ride in the lists -/
def nxw : List Cond := [.castable nNAS nNAS, .castable nNPE nNPE, .castable nRT nTh, .castable nCCE nCCE, .castable nAIO nAIO, .castable nAIO nIOB,
  .declares ⟨nRT, "<init>", dSt⟩, .declares ⟨nEx, "<init>", dSt⟩, .declares ⟨nTh, "<init>", dSt⟩, .declares ⟨nIOB, "<init>", dSt⟩, .declares ⟨nRT, "<init>", "()V"⟩, .declares ⟨nEx, "<init>", "()V"⟩, .declares ⟨nTh, "<init>", "()V"⟩]
theorem nxw_tbl : ∀ w ∈ nxw, w ∈ lw_tbl := by
  intro w hw
  simp only [nxw, List.mem_cons, List.not_mem_nil, or_false] at hw
  rcases hw with e | e | e | e | e | e | e | e | e | e | e | e | e
  · rw [e]; exact q772
  · rw [e]; exact q829
  · rw [e]; exact q831
  · rw [e]; exact q844
  · rw [e]; exact q861
  · rw [e]; exact q1371
  · rw [e]; exact q774
  · rw [e]; exact q776
  · rw [e]; exact q778
  · rw [e]; exact q863
  · rw [e]; exact q773
  · rw [e]; exact q775
  · rw [e]; exact q777
theorem nxw_ot : ∀ w ∈ nxw, w.onTables = true := by
  intro w hw
  simp only [nxw, List.mem_cons, List.not_mem_nil, or_false] at hw
  rcases hw with e | e | e | e | e | e | e | e | e | e | e | e | e <;> (rw [e]; rfl)
def NX (U : State) : Prop := (∀ w ∈ nxw, va_Nw w U) ∧ va_Nc nCCE nNPE U ∧ va_Nc nAIO nNPE U ∧ va_Nc nAIO nCCE U ∧ va_Nc "[I" "[B" U ∧ va_Nc "[S" "[B" U ∧ va_Nc "[I" "[S" U ∧ va_Nc "[B" "[S" U ∧ va_Nc "[B" "[I" U ∧ va_Nc "[S" "[I" U
theorem NX.warm {s U : State} (hW : s.WarmedH U.vm) (h : NX s) : NX U := by
  obtain ⟨h1, h2, h3, h4, h5, h6, h7, h8, h9, h10⟩ := h
  have ha := hW.alike
  refine ⟨fun w hw => ?_, h2.moved ha, h3.moved ha, h4.moved ha, h5.moved ha, h6.moved ha, h7.moved ha, h8.moved ha, h9.moved ha, h10.moved ha⟩
  have hs := h1 w hw
  simp only [nxw, List.mem_cons, List.not_mem_nil, or_false] at hw
  rcases hw with e | e | e | e | e | e | e | e | e | e | e | e | e <;> (subst e; first | exact va_Nw.warmC hW hs | exact va_Nw.warmD hW hs)
theorem NX.calling {U : State} {g : JFrame} {mk : MethodId} {a : Array Value} (h : NX U) : NX (U.calling g mk a) := by
  obtain ⟨h1, h2, h3, h4, h5, h6, h7, h8, h9, h10⟩ := h
  have ha : U.vm.Alike (U.calling g mk a).vm := Vm.Alike.refl U.vm
  exact ⟨fun w hw => va_Nw.same (u := U) (U := U.calling g mk a) (nxw_ot w hw) rfl (h1 w hw), h2.moved ha, h3.moved ha, h4.moved ha, h5.moved ha, h6.moved ha, h7.moved ha, h8.moved ha, h9.moved ha, h10.moved ha⟩
/-- Throwable's two statics, outside A -/
def XT (A : Nat → Prop) (U : State) (H : Heap) : Prop := vx_Zq Bundle.tN "UNASSIGNED_STACK" Bundle.steD A U H ∧ vx_Zq Bundle.tN "SUPPRESSED_SENTINEL" Bundle.listD A U H
theorem vx_atM_words (X : String) (names : List String) (ng : List Cond) (hng : (vx_atM X names).filter (fun w => !goodWord w) = ng) (hn : ∀ w ∈ ng, w ∈ nxw) (hg : ∀ w ∈ (vx_atM X names).filter goodWord, w ∈ lw_all) {s : State} {args : Array Value} (hts : ∀ w ∈ lw_all, w.before args s = true) (hN : NX s) : ∀ w ∈ vx_atM X names, w.before args s = true := by
  refine vx_hat (fun w hw => hts w (hg w hw)) (B := ng) (fun w hw => by rw [← hng]; exact hw) (fun w hw => ?_)
  exact (hN.1 w (hn w hw)).use (nxw_ot w (hn w hw))
theorem vx_atM_ot (X : String) (names : List String) (h : (vx_atM X names).all vx_ot = true) : ∀ w ∈ vx_atM X names, vx_ot w = true := List.all_eq_true.mp h
theorem ngNAS : (vx_atM nNAS [nRT, nEx]).filter (fun w => !goodWord w) = [.declares ⟨nRT, "<init>", dSt⟩, .declares ⟨nEx, "<init>", dSt⟩, .declares ⟨nTh, "<init>", dSt⟩, .castable nNAS nNAS] := by decide +kernel
theorem ngCCE : (vx_atM nCCE [nRT, nEx]).filter (fun w => !goodWord w) = [.declares ⟨nRT, "<init>", dSt⟩, .declares ⟨nEx, "<init>", dSt⟩, .declares ⟨nTh, "<init>", dSt⟩, .castable nCCE nCCE] := by decide +kernel
theorem ngAIO : (vx_atM nAIO [nIOB, nRT, nEx]).filter (fun w => !goodWord w) = [.declares ⟨nIOB, "<init>", dSt⟩, .declares ⟨nRT, "<init>", dSt⟩, .declares ⟨nEx, "<init>", dSt⟩, .declares ⟨nTh, "<init>", dSt⟩, .castable nAIO nAIO] := by decide +kernel
theorem ngNPE : (vx_atN 8).filter (fun w => !goodWord w) = [.castable nRT nTh, .declares ⟨nRT, "<init>", "()V"⟩, .declares ⟨nEx, "<init>", "()V"⟩, .declares ⟨nTh, "<init>", "()V"⟩, .castable nNPE nNPE] := by decide +kernel
theorem otNAS : (vx_atM nNAS [nRT, nEx]).all vx_ot = true := by decide +kernel
theorem otCCE : (vx_atM nCCE [nRT, nEx]).all vx_ot = true := by decide +kernel
theorem otAIO : (vx_atM nAIO [nIOB, nRT, nEx]).all vx_ot = true := by decide +kernel
theorem otNPE : (vx_atN 8).all vx_ot = true := by decide +kernel
theorem gdNAS : ∀ w ∈ (vx_atM nNAS [nRT, nEx]).filter goodWord, w ∈ lw_all := lw_in _ [98, 786, 729, 748, 751, 753, 787, 788, 517, 518, 723, 728, 749, 756, 780, 757, 781, 758, 782, 724, 726, 783, 721, 722, 755, 783, 712, 713, 714, 715, 715, 716, 717, 718, 718, 719, 720, 721, 102, 789, 790, 791, 793, 792, 794, 101, 711, 779, 733, 763, 765, 769, 761, 785, 784, 759] (by decide +kernel) (by decide +kernel)
theorem gdCCE : ∀ w ∈ (vx_atM nCCE [nRT, nEx]).filter goodWord, w ∈ lw_all := lw_in _ [98, 786, 729, 748, 751, 753, 787, 788, 517, 518, 723, 728, 749, 756, 780, 757, 781, 758, 782, 724, 726, 783, 721, 722, 755, 783, 834, 835, 836, 715, 715, 716, 717, 718, 718, 719, 720, 721, 102, 789, 790, 791, 793, 792, 794, 104, 833, 845, 732, 839, 840, 842, 838, 785, 784, 837] (by decide +kernel) (by decide +kernel)
theorem gdAIO : ∀ w ∈ (vx_atM nAIO [nIOB, nRT, nEx]).filter goodWord, w ∈ lw_all := lw_in _ [98, 786, 729, 748, 751, 753, 787, 788, 517, 518, 723, 728, 749, 756, 780, 757, 781, 758, 782, 724, 726, 783, 721, 722, 755, 783, 848, 849, 850, 851, 851, 852, 853, 715, 715, 716, 717, 718, 718, 719, 720, 721, 102, 789, 790, 791, 793, 792, 794, 106, 847, 864, 731, 856, 857, 859, 855, 785, 784, 854] (by decide +kernel) (by decide +kernel)
theorem gdNPE : ∀ w ∈ (vx_atN 8).filter goodWord, w ∈ lw_all := lw_in _ [98, 786, 729, 748, 751, 753, 787, 788, 517, 518, 723, 728, 749, 756, 780, 757, 781, 758, 782, 724, 726, 783, 745, 735, 736, 817, 819, 742, 743, 808, 809, 810, 811, 811, 812, 813, 814, 814, 815, 816, 787, 103, 740, 830, 734, 825, 826, 828, 785, 784, 823] (by decide +kernel) (by decide +kernel)
