/-! the row V at first -/
set_option maxRecDepth 100000
section M26
variable {E : Nat → Value} {h : HS} {Q : Rs → HS → Prop} {m : Nat}
def V0 : Nat → Int := fun k => if k < 2 then 1 else if 4 ≤ k ∧ k < 14 then -1 else 0
end M26
