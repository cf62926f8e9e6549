/-! the words of the five throws -/
set_option maxRecDepth 1000000
abbrev thN : List String := ["java/lang/RuntimeException", "java/lang/Exception"]
def lw_ix (ws : List Cond) : List Nat := ws.map fun w => lw_tbl.findIdx fun z => decide (z = w)
theorem th_IAE : vx_atS "GraphDesk" 71 "java/lang/IllegalArgumentException" thN = (lw_ix (vx_atS "GraphDesk" 71 "java/lang/IllegalArgumentException" thN)).filterMap (fun i => lw_tbl[i]?) := by decide +kernel
theorem th_UOE : vx_atS "GraphDesk" 81 "java/lang/UnsupportedOperationException" thN = (lw_ix (vx_atS "GraphDesk" 81 "java/lang/UnsupportedOperationException" thN)).filterMap (fun i => lw_tbl[i]?) := by decide +kernel
theorem th_ISE : vx_atS "GraphDesk" 166 "java/lang/IllegalStateException" thN = (lw_ix (vx_atS "GraphDesk" 166 "java/lang/IllegalStateException" thN)).filterMap (fun i => lw_tbl[i]?) := by decide +kernel
theorem th_IOOBE : vx_at0 "GraphDesk" 76 "java/lang/IndexOutOfBoundsException" thN = (lw_ix (vx_at0 "GraphDesk" 76 "java/lang/IndexOutOfBoundsException" thN)).filterMap (fun i => lw_tbl[i]?) := by decide +kernel
theorem th_IAE_t : (vx_atS "GraphDesk" 71 "java/lang/IllegalArgumentException" thN).all amT = true := by decide +kernel
theorem th_IAE_o : (Cond.classLink "GraphDesk" 67 "java/lang/IllegalArgumentException" :: Cond.initialized "java/lang/IllegalArgumentException" :: vx_atS "GraphDesk" 71 "java/lang/IllegalArgumentException" thN).all vx_ot = true := by decide +kernel
theorem th_UOE_t : (vx_atS "GraphDesk" 81 "java/lang/UnsupportedOperationException" thN).all amT = true := by decide +kernel
theorem th_UOE_o : (Cond.classLink "GraphDesk" 77 "java/lang/UnsupportedOperationException" :: Cond.initialized "java/lang/UnsupportedOperationException" :: vx_atS "GraphDesk" 81 "java/lang/UnsupportedOperationException" thN).all vx_ot = true := by decide +kernel
theorem th_ISE_t : (vx_atS "GraphDesk" 166 "java/lang/IllegalStateException" thN).all amT = true := by decide +kernel
theorem th_ISE_o : (Cond.classLink "GraphDesk" 162 "java/lang/IllegalStateException" :: Cond.initialized "java/lang/IllegalStateException" :: vx_atS "GraphDesk" 166 "java/lang/IllegalStateException" thN).all vx_ot = true := by decide +kernel
theorem th_IOOBE_t : (vx_at0 "GraphDesk" 76 "java/lang/IndexOutOfBoundsException" thN).all amT = true := by decide +kernel
theorem th_IOOBE_o : (Cond.classLink "GraphDesk" 74 "java/lang/IndexOutOfBoundsException" :: Cond.initialized "java/lang/IndexOutOfBoundsException" :: vx_at0 "GraphDesk" 76 "java/lang/IndexOutOfBoundsException" thN).all vx_ot = true := by decide +kernel
theorem q135 : (Jvm.Cond.initialized "java/lang/IllegalArgumentException") ∈ lw_all := lw_g (lw_at lw_m1 13 rfl) rfl
theorem q136 : (Jvm.Cond.initialized "java/lang/UnsupportedOperationException") ∈ lw_all := lw_g (lw_at lw_m1 14 rfl) rfl
theorem q144 : (Jvm.Cond.initialized "java/lang/IllegalStateException") ∈ lw_all := lw_g (lw_at lw_m1 22 rfl) rfl
theorem q148 : (Jvm.Cond.initialized "java/lang/IndexOutOfBoundsException") ∈ lw_all := lw_g (lw_at lw_m1 26 rfl) rfl
theorem q474 : (Jvm.Cond.classLink "GraphDesk" (67 : Nat) "java/lang/IllegalArgumentException") ∈ lw_all := lw_g (lw_at lw_m2 112 rfl) rfl
theorem q546 : (Jvm.Cond.classLink "GraphDesk" (77 : Nat) "java/lang/UnsupportedOperationException") ∈ lw_all := lw_g (lw_at lw_m2 184 rfl) rfl
theorem q810 : (Jvm.Cond.classLink "GraphDesk" (74 : Nat) "java/lang/IndexOutOfBoundsException") ∈ lw_all := lw_g (lw_at lw_m3 208 rfl) rfl
theorem q883 : (Jvm.Cond.classLink "GraphDesk" (162 : Nat) "java/lang/IllegalStateException") ∈ lw_all := lw_g (lw_at lw_m4 41 rfl) rfl
section RT
variable {Z : ZT} {μ : MM} {d pc : Nat} {ls : List (Nat × AV)} {st : List AV} {σ : AS} {o : AO} {σ' : AS}
theorem R_th_IAE {tx : String} {is : Nat} {r : Int} (hown : μ.1.cls = "GraphDesk") (hh : μ.2.2.2.2 = []) (hq : ("GraphDesk", is, tx, r) ∈ STRS) (d0 : decode μ.2.1 pc = .ok (.new 67, 3)) (d3 : decode μ.2.1 (pc + 3) = .ok (.dup, 1)) (d4 : decode μ.2.1 (pc + 4) = .ok (.ldc is, 2)) (d6 : decode μ.2.1 (pc + 6) = .ok (.invokespecial 71, 3)) (d9 : decode μ.2.1 (pc + 9) = .ok (.athrow, 1)) (h8 : wsum st ≤ 8) : R Z μ d pc ls st σ (.inr "java/lang/IllegalArgumentException") (al σ 0 0 6) :=
  R_throwS (names := thN) (by decide +kernel) (by decide +kernel) rfl hh (by rw [hown]; exact q474) q135 (by rw [hown]; exact hq) (lw_ix (vx_atS "GraphDesk" 71 "java/lang/IllegalArgumentException" thN)) (by rw [hown]; exact th_IAE) (by rw [hown]; exact th_IAE_t) (by rw [hown]; exact th_IAE_o) d0 d3 d4 d6 d9 h8
theorem R_th_UOE {tx : String} {is : Nat} {r : Int} (hown : μ.1.cls = "GraphDesk") (hh : μ.2.2.2.2 = []) (hq : ("GraphDesk", is, tx, r) ∈ STRS) (d0 : decode μ.2.1 pc = .ok (.new 77, 3)) (d3 : decode μ.2.1 (pc + 3) = .ok (.dup, 1)) (d4 : decode μ.2.1 (pc + 4) = .ok (.ldc is, 2)) (d6 : decode μ.2.1 (pc + 6) = .ok (.invokespecial 81, 3)) (d9 : decode μ.2.1 (pc + 9) = .ok (.athrow, 1)) (h8 : wsum st ≤ 8) : R Z μ d pc ls st σ (.inr "java/lang/UnsupportedOperationException") (al σ 0 0 6) :=
  R_throwS (names := thN) (by decide +kernel) (by decide +kernel) rfl hh (by rw [hown]; exact q546) q136 (by rw [hown]; exact hq) (lw_ix (vx_atS "GraphDesk" 81 "java/lang/UnsupportedOperationException" thN)) (by rw [hown]; exact th_UOE) (by rw [hown]; exact th_UOE_t) (by rw [hown]; exact th_UOE_o) d0 d3 d4 d6 d9 h8
theorem R_th_ISE {tx : String} {is : Nat} {r : Int} (hown : μ.1.cls = "GraphDesk") (hh : μ.2.2.2.2 = []) (hq : ("GraphDesk", is, tx, r) ∈ STRS) (d0 : decode μ.2.1 pc = .ok (.new 162, 3)) (d3 : decode μ.2.1 (pc + 3) = .ok (.dup, 1)) (d4 : decode μ.2.1 (pc + 4) = .ok (.ldc is, 2)) (d6 : decode μ.2.1 (pc + 6) = .ok (.invokespecial 166, 3)) (d9 : decode μ.2.1 (pc + 9) = .ok (.athrow, 1)) (h8 : wsum st ≤ 8) : R Z μ d pc ls st σ (.inr "java/lang/IllegalStateException") (al σ 0 0 6) :=
  R_throwS (names := thN) (by decide +kernel) (by decide +kernel) rfl hh (by rw [hown]; exact q883) q144 (by rw [hown]; exact hq) (lw_ix (vx_atS "GraphDesk" 166 "java/lang/IllegalStateException" thN)) (by rw [hown]; exact th_ISE) (by rw [hown]; exact th_ISE_t) (by rw [hown]; exact th_ISE_o) d0 d3 d4 d6 d9 h8
theorem R_th_IOOBE (hown : μ.1.cls = "GraphDesk") (hh : μ.2.2.2.2 = []) (d0 : decode μ.2.1 pc = .ok (.new 74, 3)) (d3 : decode μ.2.1 (pc + 3) = .ok (.dup, 1)) (d4 : decode μ.2.1 (pc + 4) = .ok (.invokespecial 76, 3)) (d7 : decode μ.2.1 (pc + 7) = .ok (.athrow, 1)) (h8 : wsum st ≤ 8) : R Z μ d pc ls st σ (.inr "java/lang/IndexOutOfBoundsException") (al σ 0 0 6) :=
  R_throw0 (names := thN) (by decide +kernel) (by decide +kernel) rfl hh (by rw [hown]; exact q810) q148 (lw_ix (vx_at0 "GraphDesk" 76 "java/lang/IndexOutOfBoundsException" thN)) (by rw [hown]; exact th_IOOBE) (by rw [hown]; exact th_IOOBE_t) (by rw [hown]; exact th_IOOBE_o) d0 d3 d4 d7 h8
end RT
theorem nt0 {x : Int} : ¬ ((0, x) : AV).1 = 1 := by simp
theorem nt2 {x : Int} : ¬ ((2, x) : AV).1 = 1 := by simp
theorem nt3 {x : Int} : ¬ ((3, x) : AV).1 = 1 := by simp
