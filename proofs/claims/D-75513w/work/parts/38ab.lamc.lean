/-! THE CALL OF A LAMBDA -/
set_option maxRecDepth 100000
theorem xl_d0 : decode xl_con 0 = .ok (.aload_n 1, 1) ∧ decode xl_con 1 = .ok (.iload_n 2, 1) ∧ decode xl_con 2 = .ok (.iload_n 3, 1) ∧ decode xl_con 3 = .ok (.invokestatic 17, 3) ∧ decode xl_con 6 = .ok (.return_, 1) := by decide +kernel
theorem xl_d1 : decode xl_cof 0 = .ok (.aload_n 1, 1) ∧ decode xl_cof 1 = .ok (.iload_n 2, 1) ∧ decode xl_cof 2 = .ok (.invokestatic 17, 3) ∧ decode xl_cof 5 = .ok (.ireturn, 1) := by decide +kernel
def xl_y (i : Nat) : MethodName := ⟨(xm_ls i).2.2.2.implClass, (xm_ls i).2.2.2.implName, (xm_ls i).2.2.2.implDesc.toString⟩
def xl_x (i : Nat) : MethodName := ⟨(xm_ls i).2.2.2.iface, (xm_ls i).2.2.2.name, (xm_ls i).2.2.2.sam.toString⟩
theorem xl_g1 : ∀ i : Fin 11, Cond.static (xl_y i.val) ∈ lw_all ∧ Cond.initialized (xl_y i.val).cls ∈ lw_all := by decide +kernel
theorem xl_g2 : ∀ i : Fin 11, Cond.declares (xl_x i.val) ∈ lw_tbl ∧ Cond.interfaceMethod (xl_x i.val).cls (xl_x i.val).cls (xl_x i.val).name (xl_x i.val).desc ∈ lw_tbl := by decide +kernel

