set_option maxRecDepth 100000
/-- what the law's answer must bring about -/
def QL (Γ : GX) (I : MI) (D : va_G) (h0 : PH) (Q : State → Prop) (o : Int32 × PH) : Prop := ∀ (pc : Nat) (vs : List (Option Value)) (v : Int32), decode I.1 pc = .ok (.ireturn, 1) → o.1 = v → PF Γ I D h0 Q o.2 pc vs [.int v]
