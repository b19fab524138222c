/-! THE EQUATIONS of the abstract instructions: written by gen/mkcalc.py -/
set_option maxRecDepth 100000
section CALC
variable {K T A B : Ct} {X : Xt} {ls st r : List Value} {h : HS} {Q : Rs → HS → Prop}
theorem e_iload0 {z : Int32} : o_iload 0 K (.int z :: ls) st h = K (.int z :: ls) (.int z :: st) h := rfl
theorem e_aload0r {z : Nat} : o_aload 0 K (.ref z :: ls) st h = K (.ref z :: ls) (.ref z :: st) h := rfl
theorem e_aload0n : o_aload 0 K (.null :: ls) st h = K (.null :: ls) (.null :: st) h := rfl
theorem e_istore0 {y : Value} {z : Int32} : o_istore 0 K (y :: ls) (.int z :: st) h = K (.int z :: ls) st h := rfl
theorem e_astore0r {y : Value} {z : Nat} : o_astore 0 K (y :: ls) (.ref z :: st) h = K (.ref z :: ls) st h := rfl
theorem e_astore0n {y : Value} : o_astore 0 K (y :: ls) (.null :: st) h = K (.null :: ls) st h := rfl
theorem e_iinc0 {z n : Int32} : o_iinc 0 n K (.int z :: ls) st h = K (.int (z + n) :: ls) st h := rfl
theorem e_iload1 {a0 : Value} {z : Int32} : o_iload 1 K (a0 :: .int z :: ls) st h = K (a0 :: .int z :: ls) (.int z :: st) h := rfl
theorem e_aload1r {a0 : Value} {z : Nat} : o_aload 1 K (a0 :: .ref z :: ls) st h = K (a0 :: .ref z :: ls) (.ref z :: st) h := rfl
theorem e_aload1n {a0 : Value} : o_aload 1 K (a0 :: .null :: ls) st h = K (a0 :: .null :: ls) (.null :: st) h := rfl
theorem e_istore1 {a0 : Value} {y : Value} {z : Int32} : o_istore 1 K (a0 :: y :: ls) (.int z :: st) h = K (a0 :: .int z :: ls) st h := rfl
theorem e_astore1r {a0 : Value} {y : Value} {z : Nat} : o_astore 1 K (a0 :: y :: ls) (.ref z :: st) h = K (a0 :: .ref z :: ls) st h := rfl
theorem e_astore1n {a0 : Value} {y : Value} : o_astore 1 K (a0 :: y :: ls) (.null :: st) h = K (a0 :: .null :: ls) st h := rfl
theorem e_iinc1 {a0 : Value} {z n : Int32} : o_iinc 1 n K (a0 :: .int z :: ls) st h = K (a0 :: .int (z + n) :: ls) st h := rfl
theorem e_iload2 {a0 a1 : Value} {z : Int32} : o_iload 2 K (a0 :: a1 :: .int z :: ls) st h = K (a0 :: a1 :: .int z :: ls) (.int z :: st) h := rfl
theorem e_aload2r {a0 a1 : Value} {z : Nat} : o_aload 2 K (a0 :: a1 :: .ref z :: ls) st h = K (a0 :: a1 :: .ref z :: ls) (.ref z :: st) h := rfl
theorem e_aload2n {a0 a1 : Value} : o_aload 2 K (a0 :: a1 :: .null :: ls) st h = K (a0 :: a1 :: .null :: ls) (.null :: st) h := rfl
theorem e_istore2 {a0 a1 : Value} {y : Value} {z : Int32} : o_istore 2 K (a0 :: a1 :: y :: ls) (.int z :: st) h = K (a0 :: a1 :: .int z :: ls) st h := rfl
theorem e_astore2r {a0 a1 : Value} {y : Value} {z : Nat} : o_astore 2 K (a0 :: a1 :: y :: ls) (.ref z :: st) h = K (a0 :: a1 :: .ref z :: ls) st h := rfl
theorem e_astore2n {a0 a1 : Value} {y : Value} : o_astore 2 K (a0 :: a1 :: y :: ls) (.null :: st) h = K (a0 :: a1 :: .null :: ls) st h := rfl
theorem e_iinc2 {a0 a1 : Value} {z n : Int32} : o_iinc 2 n K (a0 :: a1 :: .int z :: ls) st h = K (a0 :: a1 :: .int (z + n) :: ls) st h := rfl
theorem e_iload3 {a0 a1 a2 : Value} {z : Int32} : o_iload 3 K (a0 :: a1 :: a2 :: .int z :: ls) st h = K (a0 :: a1 :: a2 :: .int z :: ls) (.int z :: st) h := rfl
theorem e_aload3r {a0 a1 a2 : Value} {z : Nat} : o_aload 3 K (a0 :: a1 :: a2 :: .ref z :: ls) st h = K (a0 :: a1 :: a2 :: .ref z :: ls) (.ref z :: st) h := rfl
theorem e_aload3n {a0 a1 a2 : Value} : o_aload 3 K (a0 :: a1 :: a2 :: .null :: ls) st h = K (a0 :: a1 :: a2 :: .null :: ls) (.null :: st) h := rfl
theorem e_istore3 {a0 a1 a2 : Value} {y : Value} {z : Int32} : o_istore 3 K (a0 :: a1 :: a2 :: y :: ls) (.int z :: st) h = K (a0 :: a1 :: a2 :: .int z :: ls) st h := rfl
theorem e_astore3r {a0 a1 a2 : Value} {y : Value} {z : Nat} : o_astore 3 K (a0 :: a1 :: a2 :: y :: ls) (.ref z :: st) h = K (a0 :: a1 :: a2 :: .ref z :: ls) st h := rfl
theorem e_astore3n {a0 a1 a2 : Value} {y : Value} : o_astore 3 K (a0 :: a1 :: a2 :: y :: ls) (.null :: st) h = K (a0 :: a1 :: a2 :: .null :: ls) st h := rfl
theorem e_iinc3 {a0 a1 a2 : Value} {z n : Int32} : o_iinc 3 n K (a0 :: a1 :: a2 :: .int z :: ls) st h = K (a0 :: a1 :: a2 :: .int (z + n) :: ls) st h := rfl
theorem e_iload4 {a0 a1 a2 a3 : Value} {z : Int32} : o_iload 4 K (a0 :: a1 :: a2 :: a3 :: .int z :: ls) st h = K (a0 :: a1 :: a2 :: a3 :: .int z :: ls) (.int z :: st) h := rfl
theorem e_aload4r {a0 a1 a2 a3 : Value} {z : Nat} : o_aload 4 K (a0 :: a1 :: a2 :: a3 :: .ref z :: ls) st h = K (a0 :: a1 :: a2 :: a3 :: .ref z :: ls) (.ref z :: st) h := rfl
theorem e_aload4n {a0 a1 a2 a3 : Value} : o_aload 4 K (a0 :: a1 :: a2 :: a3 :: .null :: ls) st h = K (a0 :: a1 :: a2 :: a3 :: .null :: ls) (.null :: st) h := rfl
theorem e_istore4 {a0 a1 a2 a3 : Value} {y : Value} {z : Int32} : o_istore 4 K (a0 :: a1 :: a2 :: a3 :: y :: ls) (.int z :: st) h = K (a0 :: a1 :: a2 :: a3 :: .int z :: ls) st h := rfl
theorem e_astore4r {a0 a1 a2 a3 : Value} {y : Value} {z : Nat} : o_astore 4 K (a0 :: a1 :: a2 :: a3 :: y :: ls) (.ref z :: st) h = K (a0 :: a1 :: a2 :: a3 :: .ref z :: ls) st h := rfl
theorem e_astore4n {a0 a1 a2 a3 : Value} {y : Value} : o_astore 4 K (a0 :: a1 :: a2 :: a3 :: y :: ls) (.null :: st) h = K (a0 :: a1 :: a2 :: a3 :: .null :: ls) st h := rfl
theorem e_iinc4 {a0 a1 a2 a3 : Value} {z n : Int32} : o_iinc 4 n K (a0 :: a1 :: a2 :: a3 :: .int z :: ls) st h = K (a0 :: a1 :: a2 :: a3 :: .int (z + n) :: ls) st h := rfl
theorem e_iload5 {a0 a1 a2 a3 a4 : Value} {z : Int32} : o_iload 5 K (a0 :: a1 :: a2 :: a3 :: a4 :: .int z :: ls) st h = K (a0 :: a1 :: a2 :: a3 :: a4 :: .int z :: ls) (.int z :: st) h := rfl
theorem e_aload5r {a0 a1 a2 a3 a4 : Value} {z : Nat} : o_aload 5 K (a0 :: a1 :: a2 :: a3 :: a4 :: .ref z :: ls) st h = K (a0 :: a1 :: a2 :: a3 :: a4 :: .ref z :: ls) (.ref z :: st) h := rfl
theorem e_aload5n {a0 a1 a2 a3 a4 : Value} : o_aload 5 K (a0 :: a1 :: a2 :: a3 :: a4 :: .null :: ls) st h = K (a0 :: a1 :: a2 :: a3 :: a4 :: .null :: ls) (.null :: st) h := rfl
theorem e_istore5 {a0 a1 a2 a3 a4 : Value} {y : Value} {z : Int32} : o_istore 5 K (a0 :: a1 :: a2 :: a3 :: a4 :: y :: ls) (.int z :: st) h = K (a0 :: a1 :: a2 :: a3 :: a4 :: .int z :: ls) st h := rfl
theorem e_astore5r {a0 a1 a2 a3 a4 : Value} {y : Value} {z : Nat} : o_astore 5 K (a0 :: a1 :: a2 :: a3 :: a4 :: y :: ls) (.ref z :: st) h = K (a0 :: a1 :: a2 :: a3 :: a4 :: .ref z :: ls) st h := rfl
theorem e_astore5n {a0 a1 a2 a3 a4 : Value} {y : Value} : o_astore 5 K (a0 :: a1 :: a2 :: a3 :: a4 :: y :: ls) (.null :: st) h = K (a0 :: a1 :: a2 :: a3 :: a4 :: .null :: ls) st h := rfl
theorem e_iinc5 {a0 a1 a2 a3 a4 : Value} {z n : Int32} : o_iinc 5 n K (a0 :: a1 :: a2 :: a3 :: a4 :: .int z :: ls) st h = K (a0 :: a1 :: a2 :: a3 :: a4 :: .int (z + n) :: ls) st h := rfl
theorem e_iload6 {a0 a1 a2 a3 a4 a5 : Value} {z : Int32} : o_iload 6 K (a0 :: a1 :: a2 :: a3 :: a4 :: a5 :: .int z :: ls) st h = K (a0 :: a1 :: a2 :: a3 :: a4 :: a5 :: .int z :: ls) (.int z :: st) h := rfl
theorem e_aload6r {a0 a1 a2 a3 a4 a5 : Value} {z : Nat} : o_aload 6 K (a0 :: a1 :: a2 :: a3 :: a4 :: a5 :: .ref z :: ls) st h = K (a0 :: a1 :: a2 :: a3 :: a4 :: a5 :: .ref z :: ls) (.ref z :: st) h := rfl
theorem e_aload6n {a0 a1 a2 a3 a4 a5 : Value} : o_aload 6 K (a0 :: a1 :: a2 :: a3 :: a4 :: a5 :: .null :: ls) st h = K (a0 :: a1 :: a2 :: a3 :: a4 :: a5 :: .null :: ls) (.null :: st) h := rfl
theorem e_istore6 {a0 a1 a2 a3 a4 a5 : Value} {y : Value} {z : Int32} : o_istore 6 K (a0 :: a1 :: a2 :: a3 :: a4 :: a5 :: y :: ls) (.int z :: st) h = K (a0 :: a1 :: a2 :: a3 :: a4 :: a5 :: .int z :: ls) st h := rfl
theorem e_astore6r {a0 a1 a2 a3 a4 a5 : Value} {y : Value} {z : Nat} : o_astore 6 K (a0 :: a1 :: a2 :: a3 :: a4 :: a5 :: y :: ls) (.ref z :: st) h = K (a0 :: a1 :: a2 :: a3 :: a4 :: a5 :: .ref z :: ls) st h := rfl
theorem e_astore6n {a0 a1 a2 a3 a4 a5 : Value} {y : Value} : o_astore 6 K (a0 :: a1 :: a2 :: a3 :: a4 :: a5 :: y :: ls) (.null :: st) h = K (a0 :: a1 :: a2 :: a3 :: a4 :: a5 :: .null :: ls) st h := rfl
theorem e_iinc6 {a0 a1 a2 a3 a4 a5 : Value} {z n : Int32} : o_iinc 6 n K (a0 :: a1 :: a2 :: a3 :: a4 :: a5 :: .int z :: ls) st h = K (a0 :: a1 :: a2 :: a3 :: a4 :: a5 :: .int (z + n) :: ls) st h := rfl
theorem e_iload7 {a0 a1 a2 a3 a4 a5 a6 : Value} {z : Int32} : o_iload 7 K (a0 :: a1 :: a2 :: a3 :: a4 :: a5 :: a6 :: .int z :: ls) st h = K (a0 :: a1 :: a2 :: a3 :: a4 :: a5 :: a6 :: .int z :: ls) (.int z :: st) h := rfl
theorem e_aload7r {a0 a1 a2 a3 a4 a5 a6 : Value} {z : Nat} : o_aload 7 K (a0 :: a1 :: a2 :: a3 :: a4 :: a5 :: a6 :: .ref z :: ls) st h = K (a0 :: a1 :: a2 :: a3 :: a4 :: a5 :: a6 :: .ref z :: ls) (.ref z :: st) h := rfl
theorem e_aload7n {a0 a1 a2 a3 a4 a5 a6 : Value} : o_aload 7 K (a0 :: a1 :: a2 :: a3 :: a4 :: a5 :: a6 :: .null :: ls) st h = K (a0 :: a1 :: a2 :: a3 :: a4 :: a5 :: a6 :: .null :: ls) (.null :: st) h := rfl
theorem e_istore7 {a0 a1 a2 a3 a4 a5 a6 : Value} {y : Value} {z : Int32} : o_istore 7 K (a0 :: a1 :: a2 :: a3 :: a4 :: a5 :: a6 :: y :: ls) (.int z :: st) h = K (a0 :: a1 :: a2 :: a3 :: a4 :: a5 :: a6 :: .int z :: ls) st h := rfl
theorem e_astore7r {a0 a1 a2 a3 a4 a5 a6 : Value} {y : Value} {z : Nat} : o_astore 7 K (a0 :: a1 :: a2 :: a3 :: a4 :: a5 :: a6 :: y :: ls) (.ref z :: st) h = K (a0 :: a1 :: a2 :: a3 :: a4 :: a5 :: a6 :: .ref z :: ls) st h := rfl
theorem e_astore7n {a0 a1 a2 a3 a4 a5 a6 : Value} {y : Value} : o_astore 7 K (a0 :: a1 :: a2 :: a3 :: a4 :: a5 :: a6 :: y :: ls) (.null :: st) h = K (a0 :: a1 :: a2 :: a3 :: a4 :: a5 :: a6 :: .null :: ls) st h := rfl
theorem e_iinc7 {a0 a1 a2 a3 a4 a5 a6 : Value} {z n : Int32} : o_iinc 7 n K (a0 :: a1 :: a2 :: a3 :: a4 :: a5 :: a6 :: .int z :: ls) st h = K (a0 :: a1 :: a2 :: a3 :: a4 :: a5 :: a6 :: .int (z + n) :: ls) st h := rfl
theorem e_iload8 {a0 a1 a2 a3 a4 a5 a6 a7 : Value} {z : Int32} : o_iload 8 K (a0 :: a1 :: a2 :: a3 :: a4 :: a5 :: a6 :: a7 :: .int z :: ls) st h = K (a0 :: a1 :: a2 :: a3 :: a4 :: a5 :: a6 :: a7 :: .int z :: ls) (.int z :: st) h := rfl
theorem e_aload8r {a0 a1 a2 a3 a4 a5 a6 a7 : Value} {z : Nat} : o_aload 8 K (a0 :: a1 :: a2 :: a3 :: a4 :: a5 :: a6 :: a7 :: .ref z :: ls) st h = K (a0 :: a1 :: a2 :: a3 :: a4 :: a5 :: a6 :: a7 :: .ref z :: ls) (.ref z :: st) h := rfl
theorem e_aload8n {a0 a1 a2 a3 a4 a5 a6 a7 : Value} : o_aload 8 K (a0 :: a1 :: a2 :: a3 :: a4 :: a5 :: a6 :: a7 :: .null :: ls) st h = K (a0 :: a1 :: a2 :: a3 :: a4 :: a5 :: a6 :: a7 :: .null :: ls) (.null :: st) h := rfl
theorem e_istore8 {a0 a1 a2 a3 a4 a5 a6 a7 : Value} {y : Value} {z : Int32} : o_istore 8 K (a0 :: a1 :: a2 :: a3 :: a4 :: a5 :: a6 :: a7 :: y :: ls) (.int z :: st) h = K (a0 :: a1 :: a2 :: a3 :: a4 :: a5 :: a6 :: a7 :: .int z :: ls) st h := rfl
theorem e_astore8r {a0 a1 a2 a3 a4 a5 a6 a7 : Value} {y : Value} {z : Nat} : o_astore 8 K (a0 :: a1 :: a2 :: a3 :: a4 :: a5 :: a6 :: a7 :: y :: ls) (.ref z :: st) h = K (a0 :: a1 :: a2 :: a3 :: a4 :: a5 :: a6 :: a7 :: .ref z :: ls) st h := rfl
theorem e_astore8n {a0 a1 a2 a3 a4 a5 a6 a7 : Value} {y : Value} : o_astore 8 K (a0 :: a1 :: a2 :: a3 :: a4 :: a5 :: a6 :: a7 :: y :: ls) (.null :: st) h = K (a0 :: a1 :: a2 :: a3 :: a4 :: a5 :: a6 :: a7 :: .null :: ls) st h := rfl
theorem e_iinc8 {a0 a1 a2 a3 a4 a5 a6 a7 : Value} {z n : Int32} : o_iinc 8 n K (a0 :: a1 :: a2 :: a3 :: a4 :: a5 :: a6 :: a7 :: .int z :: ls) st h = K (a0 :: a1 :: a2 :: a3 :: a4 :: a5 :: a6 :: a7 :: .int (z + n) :: ls) st h := rfl
theorem e_iload9 {a0 a1 a2 a3 a4 a5 a6 a7 a8 : Value} {z : Int32} : o_iload 9 K (a0 :: a1 :: a2 :: a3 :: a4 :: a5 :: a6 :: a7 :: a8 :: .int z :: ls) st h = K (a0 :: a1 :: a2 :: a3 :: a4 :: a5 :: a6 :: a7 :: a8 :: .int z :: ls) (.int z :: st) h := rfl
theorem e_aload9r {a0 a1 a2 a3 a4 a5 a6 a7 a8 : Value} {z : Nat} : o_aload 9 K (a0 :: a1 :: a2 :: a3 :: a4 :: a5 :: a6 :: a7 :: a8 :: .ref z :: ls) st h = K (a0 :: a1 :: a2 :: a3 :: a4 :: a5 :: a6 :: a7 :: a8 :: .ref z :: ls) (.ref z :: st) h := rfl
theorem e_aload9n {a0 a1 a2 a3 a4 a5 a6 a7 a8 : Value} : o_aload 9 K (a0 :: a1 :: a2 :: a3 :: a4 :: a5 :: a6 :: a7 :: a8 :: .null :: ls) st h = K (a0 :: a1 :: a2 :: a3 :: a4 :: a5 :: a6 :: a7 :: a8 :: .null :: ls) (.null :: st) h := rfl
theorem e_istore9 {a0 a1 a2 a3 a4 a5 a6 a7 a8 : Value} {y : Value} {z : Int32} : o_istore 9 K (a0 :: a1 :: a2 :: a3 :: a4 :: a5 :: a6 :: a7 :: a8 :: y :: ls) (.int z :: st) h = K (a0 :: a1 :: a2 :: a3 :: a4 :: a5 :: a6 :: a7 :: a8 :: .int z :: ls) st h := rfl
theorem e_astore9r {a0 a1 a2 a3 a4 a5 a6 a7 a8 : Value} {y : Value} {z : Nat} : o_astore 9 K (a0 :: a1 :: a2 :: a3 :: a4 :: a5 :: a6 :: a7 :: a8 :: y :: ls) (.ref z :: st) h = K (a0 :: a1 :: a2 :: a3 :: a4 :: a5 :: a6 :: a7 :: a8 :: .ref z :: ls) st h := rfl
theorem e_astore9n {a0 a1 a2 a3 a4 a5 a6 a7 a8 : Value} {y : Value} : o_astore 9 K (a0 :: a1 :: a2 :: a3 :: a4 :: a5 :: a6 :: a7 :: a8 :: y :: ls) (.null :: st) h = K (a0 :: a1 :: a2 :: a3 :: a4 :: a5 :: a6 :: a7 :: a8 :: .null :: ls) st h := rfl
theorem e_iinc9 {a0 a1 a2 a3 a4 a5 a6 a7 a8 : Value} {z n : Int32} : o_iinc 9 n K (a0 :: a1 :: a2 :: a3 :: a4 :: a5 :: a6 :: a7 :: a8 :: .int z :: ls) st h = K (a0 :: a1 :: a2 :: a3 :: a4 :: a5 :: a6 :: a7 :: a8 :: .int (z + n) :: ls) st h := rfl
theorem e_dload4 {a0 a1 a2 a3 : Value} {z : UInt64} : o_dload 4 K (a0 :: a1 :: a2 :: a3 :: .double z :: ls) st h = K (a0 :: a1 :: a2 :: a3 :: .double z :: ls) (.double z :: st) h := rfl
theorem e_dstore4 {a0 a1 a2 a3 : Value} {y w : Value} {z : UInt64} : o_dstore 4 K (a0 :: a1 :: a2 :: a3 :: y :: w :: ls) (.double z :: st) h = K (a0 :: a1 :: a2 :: a3 :: .double z :: jk :: ls) st h := rfl
theorem e_dload6 {a0 a1 a2 a3 a4 a5 : Value} {z : UInt64} : o_dload 6 K (a0 :: a1 :: a2 :: a3 :: a4 :: a5 :: .double z :: ls) st h = K (a0 :: a1 :: a2 :: a3 :: a4 :: a5 :: .double z :: ls) (.double z :: st) h := rfl
theorem e_dstore6 {a0 a1 a2 a3 a4 a5 : Value} {y w : Value} {z : UInt64} : o_dstore 6 K (a0 :: a1 :: a2 :: a3 :: a4 :: a5 :: y :: w :: ls) (.double z :: st) h = K (a0 :: a1 :: a2 :: a3 :: a4 :: a5 :: .double z :: jk :: ls) st h := rfl
theorem e_push {v : Value} : o_push v K ls st h = K ls (v :: st) h := rfl
theorem e_iadd {y z : Int32} : o_iadd K ls (.int z :: .int y :: r) h = K ls (.int (y + z) :: r) h := rfl
theorem e_isub {y z : Int32} : o_isub K ls (.int z :: .int y :: r) h = K ls (.int (y - z) :: r) h := rfl
theorem e_imul {y z : Int32} : o_imul K ls (.int z :: .int y :: r) h = K ls (.int (y * z) :: r) h := rfl
theorem e_iand {y z : Int32} : o_iand K ls (.int z :: .int y :: r) h = K ls (.int (y &&& z) :: r) h := rfl
theorem e_ior {y z : Int32} : o_ior K ls (.int z :: .int y :: r) h = K ls (.int (y ||| z) :: r) h := rfl
theorem e_ixor {y z : Int32} : o_ixor K ls (.int z :: .int y :: r) h = K ls (.int (y ^^^ z) :: r) h := rfl
theorem e_ishl {y z : Int32} : o_ishl K ls (.int z :: .int y :: r) h = K ls (.int (y <<< (z &&& 31)) :: r) h := rfl
theorem e_ishr {y z : Int32} : o_ishr K ls (.int z :: .int y :: r) h = K ls (.int (y >>> (z &&& 31)) :: r) h := rfl
theorem e_iushr {y z : Int32} : o_iushr K ls (.int z :: .int y :: r) h = K ls (.int ((y.toUInt32 >>> (z.toUInt32 &&& Int32.toUInt32 31)).toInt32) :: r) h := rfl
theorem e_idiv {y z : Int32} : o_idiv K ls (.int z :: .int y :: r) h = (¬ z = 0 ∧ K ls (.int (y / z) :: r) h) := rfl
theorem e_irem {y z : Int32} : o_irem K ls (.int z :: .int y :: r) h = (¬ z = 0 ∧ K ls (.int (y - y / z * z) :: r) h) := rfl
theorem e_ineg {y : Int32} : o_ineg K ls (.int y :: r) h = K ls (.int (-y) :: r) h := rfl
theorem e_i2c {y : Int32} : o_i2c K ls (.int y :: r) h = K ls (.int ((y.toUInt32 % 65536).toInt32) :: r) h := rfl
theorem e_i2b {y : Int32} : o_i2b K ls (.int y :: r) h = K ls (.int (y.toInt8.toInt32) :: r) h := rfl
theorem e_i2d {y : Int32} : o_i2d K ls (.int y :: r) h = K ls (.double (FP.i2d y) :: r) h := rfl
theorem e_i2f {y : Int32} : o_i2f K ls (.int y :: r) h = K ls (.float (FP.i2f y) :: r) h := rfl
theorem e_ddiv {y z : UInt64} : o_ddiv K ls (.double z :: .double y :: r) h = (vf_n64 (FP.ddiv y z) ∧ K ls (.double (FP.ddiv y z) :: r) h) := rfl
theorem e_fdiv {y z : UInt32} : o_fdiv K ls (.float z :: .float y :: r) h = (vf_n32 (FP.fdiv y z) ∧ K ls (.float (FP.fdiv y z) :: r) h) := rfl
theorem e_f2d {y : UInt32} : o_f2d K ls (.float y :: r) h = (vf_n64 (FP.f2d y) ∧ K ls (.double (FP.f2d y) :: r) h) := rfl
theorem e_dcmp {op : CmpOp} {y z : UInt64} : o_dcmp op K ls (.double z :: .double y :: r) h = K ls (.int (Op.cmpValue (FP.dcmp y z) op) :: r) h := rfl
theorem e_dup_i {z : Int32} : o_dup K ls (.int z :: r) h = K ls (.int z :: .int z :: r) h := by simp [o_dup, Value.category]
theorem e_pop_i {z : Int32} : o_pop K ls (.int z :: r) h = K ls r h := by simp [o_pop, Value.category]
theorem e_dup_x1_ii {z : Int32} {y : Int32} : o_dup_x1 K ls (.int z :: .int y :: r) h = K ls (.int z :: .int y :: .int z :: r) h := by simp [o_dup_x1, Value.category]
theorem e_dup2_ii {z : Int32} {y : Int32} : o_dup2 K ls (.int z :: .int y :: r) h = K ls (.int z :: .int y :: .int z :: .int y :: r) h := by simp [o_dup2, Value.category]
theorem e_dup_x1_ir {z : Int32} {y : Nat} : o_dup_x1 K ls (.int z :: .ref y :: r) h = K ls (.int z :: .ref y :: .int z :: r) h := by simp [o_dup_x1, Value.category]
theorem e_dup2_ir {z : Int32} {y : Nat} : o_dup2 K ls (.int z :: .ref y :: r) h = K ls (.int z :: .ref y :: .int z :: .ref y :: r) h := by simp [o_dup2, Value.category]
theorem e_dup_x1_in {z : Int32}  : o_dup_x1 K ls (.int z :: .null :: r) h = K ls (.int z :: .null :: .int z :: r) h := by simp [o_dup_x1, Value.category]
theorem e_dup2_in {z : Int32}  : o_dup2 K ls (.int z :: .null :: r) h = K ls (.int z :: .null :: .int z :: .null :: r) h := by simp [o_dup2, Value.category]
theorem e_dup_r {z : Nat} : o_dup K ls (.ref z :: r) h = K ls (.ref z :: .ref z :: r) h := by simp [o_dup, Value.category]
theorem e_pop_r {z : Nat} : o_pop K ls (.ref z :: r) h = K ls r h := by simp [o_pop, Value.category]
theorem e_dup_x1_ri {z : Nat} {y : Int32} : o_dup_x1 K ls (.ref z :: .int y :: r) h = K ls (.ref z :: .int y :: .ref z :: r) h := by simp [o_dup_x1, Value.category]
theorem e_dup2_ri {z : Nat} {y : Int32} : o_dup2 K ls (.ref z :: .int y :: r) h = K ls (.ref z :: .int y :: .ref z :: .int y :: r) h := by simp [o_dup2, Value.category]
theorem e_dup_x1_rr {z : Nat} {y : Nat} : o_dup_x1 K ls (.ref z :: .ref y :: r) h = K ls (.ref z :: .ref y :: .ref z :: r) h := by simp [o_dup_x1, Value.category]
theorem e_dup2_rr {z : Nat} {y : Nat} : o_dup2 K ls (.ref z :: .ref y :: r) h = K ls (.ref z :: .ref y :: .ref z :: .ref y :: r) h := by simp [o_dup2, Value.category]
theorem e_dup_x1_rn {z : Nat}  : o_dup_x1 K ls (.ref z :: .null :: r) h = K ls (.ref z :: .null :: .ref z :: r) h := by simp [o_dup_x1, Value.category]
theorem e_dup2_rn {z : Nat}  : o_dup2 K ls (.ref z :: .null :: r) h = K ls (.ref z :: .null :: .ref z :: .null :: r) h := by simp [o_dup2, Value.category]
theorem e_dup_n  : o_dup K ls (.null :: r) h = K ls (.null :: .null :: r) h := by simp [o_dup, Value.category]
theorem e_pop_n  : o_pop K ls (.null :: r) h = K ls r h := by simp [o_pop, Value.category]
theorem e_dup_x1_ni  {y : Int32} : o_dup_x1 K ls (.null :: .int y :: r) h = K ls (.null :: .int y :: .null :: r) h := by simp [o_dup_x1, Value.category]
theorem e_dup2_ni  {y : Int32} : o_dup2 K ls (.null :: .int y :: r) h = K ls (.null :: .int y :: .null :: .int y :: r) h := by simp [o_dup2, Value.category]
theorem e_dup_x1_nr  {y : Nat} : o_dup_x1 K ls (.null :: .ref y :: r) h = K ls (.null :: .ref y :: .null :: r) h := by simp [o_dup_x1, Value.category]
theorem e_dup2_nr  {y : Nat} : o_dup2 K ls (.null :: .ref y :: r) h = K ls (.null :: .ref y :: .null :: .ref y :: r) h := by simp [o_dup2, Value.category]
theorem e_dup_x1_nn   : o_dup_x1 K ls (.null :: .null :: r) h = K ls (.null :: .null :: .null :: r) h := by simp [o_dup_x1, Value.category]
theorem e_dup2_nn   : o_dup2 K ls (.null :: .null :: r) h = K ls (.null :: .null :: .null :: .null :: r) h := by simp [o_dup2, Value.category]
theorem e_ifeq {y : Int32} : o_ifeq T K ls (.int y :: r) h = (if y = 0 then T ls r h else K ls r h) := rfl
theorem e_ifne {y : Int32} : o_ifne T K ls (.int y :: r) h = (if y = 0 then K ls r h else T ls r h) := rfl
theorem e_iflt {y : Int32} : o_iflt T K ls (.int y :: r) h = (if y < 0 then T ls r h else K ls r h) := rfl
theorem e_ifge {y : Int32} : o_ifge T K ls (.int y :: r) h = (if y < 0 then K ls r h else T ls r h) := rfl
theorem e_ifgt {y : Int32} : o_ifgt T K ls (.int y :: r) h = (if 0 < y then T ls r h else K ls r h) := rfl
theorem e_ifle {y : Int32} : o_ifle T K ls (.int y :: r) h = (if 0 < y then K ls r h else T ls r h) := rfl
theorem e_icmpeq {y z : Int32} : o_icmpeq T K ls (.int z :: .int y :: r) h = (if y = z then T ls r h else K ls r h) := rfl
theorem e_icmpne {y z : Int32} : o_icmpne T K ls (.int z :: .int y :: r) h = (if y = z then K ls r h else T ls r h) := rfl
theorem e_icmplt {y z : Int32} : o_icmplt T K ls (.int z :: .int y :: r) h = (if y < z then T ls r h else K ls r h) := rfl
theorem e_icmpge {y z : Int32} : o_icmpge T K ls (.int z :: .int y :: r) h = (if y < z then K ls r h else T ls r h) := rfl
theorem e_icmpgt {y z : Int32} : o_icmpgt T K ls (.int z :: .int y :: r) h = (if z < y then T ls r h else K ls r h) := rfl
theorem e_icmple {y z : Int32} : o_icmple T K ls (.int z :: .int y :: r) h = (if z < y then K ls r h else T ls r h) := rfl
theorem e_ifnull_n : o_ifnull T K ls (.null :: r) h = T ls r h := rfl
theorem e_ifnull_r {z : Nat} : o_ifnull T K ls (.ref z :: r) h = K ls r h := rfl
theorem e_ifnonnull_n : o_ifnonnull T K ls (.null :: r) h = K ls r h := rfl
theorem e_ifnonnull_r {z : Nat} : o_ifnonnull T K ls (.ref z :: r) h = T ls r h := rfl
theorem e_acmpeq_rr {y z : Nat} : o_acmpeq T K ls (.ref z :: .ref y :: r) h = (if y = z then T ls r h else K ls r h) := by simp [o_acmpeq, unrf]
theorem e_acmpeq_rn {z : Nat} : o_acmpeq T K ls (.ref z :: .null :: r) h = K ls r h := by simp [o_acmpeq, unrf]
theorem e_acmpeq_nr {z : Nat} : o_acmpeq T K ls (.null :: .ref z :: r) h = K ls r h := by simp [o_acmpeq, unrf]
theorem e_acmpeq_nn : o_acmpeq T K ls (.null :: .null :: r) h = T ls r h := by simp [o_acmpeq, unrf]
theorem e_acmpne_rr {y z : Nat} : o_acmpne T K ls (.ref z :: .ref y :: r) h = (if y = z then K ls r h else T ls r h) := by simp [o_acmpne, unrf]
theorem e_acmpne_rn {z : Nat} : o_acmpne T K ls (.ref z :: .null :: r) h = T ls r h := by simp [o_acmpne, unrf]
theorem e_acmpne_nr {z : Nat} : o_acmpne T K ls (.null :: .ref z :: r) h = T ls r h := by simp [o_acmpne, unrf]
theorem e_acmpne_nn : o_acmpne T K ls (.null :: .null :: r) h = K ls r h := by simp [o_acmpne, unrf]
theorem e_getf {cs : List Nat} {k a : Nat} : o_getf cs k K ls (.ref a :: r) h = (match h.1 a with | some (c, vs) => inK cs c = true ∧ (match vs[k]? with | some v => K ls (v :: r) h | none => False) | none => False) := rfl
theorem e_putf {cs : List Nat} {k a : Nat} {ty : FieldType} {v : Value} : o_putf cs k ty K ls (v :: .ref a :: r) h = (match h.1 a with | some (c, vs) => c < 200 ∧ inK cs c = true ∧ narrow ty v = v ∧ fits ty v = true ∧ K ls r (hset h a (c, vs.set k v)) | none => False) := rfl
theorem e_alen {a : Nat} : o_alen K ls (.ref a :: r) h = (match h.1 a with | some (c, vs) => 100 ≤ kd c ∧ kd c < 108 ∧ K ls (.int vs.length.toInt32 :: r) h | none => False) := rfl
theorem e_slen {E : Nat → Value} {a : Nat} : o_slen E K ls (.ref a :: r) h = (match scrE E a with | some (_, vs) => K ls (.int vs.length.toInt32 :: r) h | none => False) := rfl
theorem e_sld {E : Nat → Value} {a : Nat} {i : Int32} : o_sld E K ls (.int i :: .ref a :: r) h = (match scrE E a with | some (_, vs) => ¬ i < 0 ∧ (match vs[i.toNatClampNeg]? with | some v => K ls (v :: r) h | none => False) | none => False) := rfl
theorem e_ald {cs : List Nat} {a : Nat} {i : Int32} : o_ald cs K ls (.int i :: .ref a :: r) h = (match h.1 a with | some (c, vs) => inK cs c = true ∧ ¬ i < 0 ∧ (match vs[i.toNatClampNeg]? with | some v => K ls (v :: r) h | none => False) | none => False) := rfl
theorem e_ast {cs : List (Nat × FieldType)} {a : Nat} {i z : Int32} : o_ast cs K ls (.int z :: .int i :: .ref a :: r) h = (match h.1 a with | some (c, vs) => (∃ q ∈ cs, q.1 = c ∧ narrow q.2 (.int z) = .int z) ∧ ¬ i < 0 ∧ i.toNatClampNeg < vs.length ∧ K ls r (hset h a (c, vs.set i.toNatClampNeg (.int z))) | none => False) := rfl
theorem e_aastr {a b : Nat} {i : Int32} : o_aast K ls (.ref b :: .int i :: .ref a :: r) h = (match h.1 a with | some (c, vs) => c < 200 ∧ inK [103, 104, 105, 106, 107] c = true ∧ ¬ i < 0 ∧ i.toNatClampNeg < vs.length ∧ (match h.1 b with | some (cb, _) => (kd cb, kd c) ∈ stab | none => False) ∧ K ls r (hset h a (c, vs.set i.toNatClampNeg (.ref b))) | none => False) := rfl
theorem e_aastn {a : Nat} {i : Int32} : o_aast K ls (.null :: .int i :: .ref a :: r) h = (match h.1 a with | some (c, vs) => c < 200 ∧ inK [103, 104, 105, 106, 107] c = true ∧ ¬ i < 0 ∧ i.toNatClampNeg < vs.length ∧ True ∧ K ls r (hset h a (c, vs.set i.toNatClampNeg .null)) | none => False) := rfl
theorem e_new {c n : Nat} {vs : List Value} : o_new c n vs K ls st h = (1 ≤ h.2.2.1 ∧ n ≤ h.2.2.2 ∧ K ls (.ref h.2.1 :: st) (hnew h (c, vs) n)) := rfl
theorem e_newa {c : Nat} {dv : Value} {n : Int32} : o_newa c dv K ls (.int n :: r) h = (¬ n < 0 ∧ n.toNatClampNeg ≤ 100000000 ∧ 1 ≤ h.2.2.1 ∧ n.toNatClampNeg ≤ h.2.2.2 ∧ K ls (.ref h.2.1 :: r) (hnew h (c, List.replicate n.toNatClampNeg dv) n.toNatClampNeg)) := rfl
theorem e_cast_n {cs : List Nat} : o_cast cs K ls (.null :: r) h = K ls (.null :: r) h := rfl
theorem e_cast_r {cs : List Nat} {a : Nat} : o_cast cs K ls (.ref a :: r) h = (match h.1 a with | some (c, _) => inK cs c = true ∧ K ls (.ref a :: r) h | none => False) := rfl
theorem e_inst_n {ys ns : List Nat} : o_inst ys ns K ls (.null :: r) h = K ls (.int 0 :: r) h := rfl
theorem e_inst_r {ys ns : List Nat} {a : Nat} : o_inst ys ns K ls (.ref a :: r) h = (match h.1 a with | some (c, _) => if inK ys c = true then K ls (.int 1 :: r) h else inK ns c = true ∧ K ls (.int 0 :: r) h | none => False) := rfl
theorem e_objInit {a : Nat} : o_objInit K ls (.ref a :: r) h = ((r.map fun v => v.category).sum ≤ 8 ∧ K ls r h) := rfl
theorem e_ireturn {ty : FieldType} {v : Int32} : o_ireturn ty Q ls [.int v] h = (narrow ty (.int v) = .int v ∧ Q (.inl (some (.int v))) h) := rfl
theorem e_return : o_return Q ls [] h = Q (.inl none) h := rfl
theorem e_areturn_r {a : Nat} : o_areturn Q ls [.ref a] h = Q (.inl (some (.ref a))) h := rfl
theorem e_areturn_n : o_areturn Q ls [.null] h = Q (.inl (some .null)) h := rfl
theorem e_dreturn {a : UInt64} : o_dreturn Q ls [.double a] h = Q (.inl (some (.double a))) h := rfl
theorem e_freturn {a : UInt32} : o_freturn Q ls [.float a] h = Q (.inl (some (.float a))) h := rfl
theorem e_athrow {q : Nat} : o_athrow X ls (.ref q :: r) h = (match h.1 q with | some (c, _) => c < 200 ∧ X ls q h | none => False) := rfl
theorem e_xout {q : Nat} : x_out Q ls q h = ((∃ ob, h.1 q = some ob) ∧ Q (.inr q) h) := rfl
theorem e_xcatch {cs : List Nat} {q : Nat} : x_catch cs T X ls q h = (match h.1 q with | some (c, _) => if inK cs c = true then c < 200 ∧ T ls [.ref q] h else X ls q h | none => False) := rfl
theorem e_call0 {wp : Wp} : o_call 0 wp X K ls (r) h = (okA [] = true ∧ catSum r ≤ 8 ∧ wp [] h (callPost X K ls r)) := rfl
theorem e_call1 {v0 : Value} {wp : Wp} : o_call 1 wp X K ls (v0 :: r) h = (okA [v0] = true ∧ catSum r ≤ 8 ∧ wp [v0] h (callPost X K ls r)) := rfl
theorem e_callI1 {b : Nat} {wp : Wp} : o_callI 1 wp X K ls (.ref b :: r) h = (okA [] = true ∧ catSum r ≤ 8 ∧ wp [.ref b] h (callPost X K ls r)) := rfl
theorem e_callV1 {cs : List Nat} {b : Nat} {wp : Wp} : o_callV cs 1 wp X K ls (.ref b :: r) h = (match h.1 b with | some (c, _) => inK cs c = true ∧ okA [] = true ∧ catSum r ≤ 8 ∧ wp [.ref b] h (callPost X K ls r) | none => False) := rfl
theorem e_vsel1 {cs : List Nat} {b : Nat} : o_vsel 1 cs A B ls (.ref b :: r) h = (match h.1 b with | some (c, _) => if inK cs c = true then A ls (.ref b :: r) h else B ls (.ref b :: r) h | none => False) := rfl
theorem e_call2 {v0 v1 : Value} {wp : Wp} : o_call 2 wp X K ls (v1 :: v0 :: r) h = (okA [v0, v1] = true ∧ catSum r ≤ 8 ∧ wp [v0, v1] h (callPost X K ls r)) := rfl
theorem e_callI2 {b : Nat} {v1 : Value} {wp : Wp} : o_callI 2 wp X K ls (v1 :: .ref b :: r) h = (okA [v1] = true ∧ catSum r ≤ 8 ∧ wp [.ref b, v1] h (callPost X K ls r)) := rfl
theorem e_callV2 {cs : List Nat} {b : Nat} {v1 : Value} {wp : Wp} : o_callV cs 2 wp X K ls (v1 :: .ref b :: r) h = (match h.1 b with | some (c, _) => inK cs c = true ∧ okA [v1] = true ∧ catSum r ≤ 8 ∧ wp [.ref b, v1] h (callPost X K ls r) | none => False) := rfl
theorem e_vsel2 {cs : List Nat} {b : Nat} {v1 : Value} : o_vsel 2 cs A B ls (v1 :: .ref b :: r) h = (match h.1 b with | some (c, _) => if inK cs c = true then A ls (v1 :: .ref b :: r) h else B ls (v1 :: .ref b :: r) h | none => False) := rfl
theorem e_call3 {v0 v1 v2 : Value} {wp : Wp} : o_call 3 wp X K ls (v2 :: v1 :: v0 :: r) h = (okA [v0, v1, v2] = true ∧ catSum r ≤ 8 ∧ wp [v0, v1, v2] h (callPost X K ls r)) := rfl
theorem e_callI3 {b : Nat} {v1 v2 : Value} {wp : Wp} : o_callI 3 wp X K ls (v2 :: v1 :: .ref b :: r) h = (okA [v1, v2] = true ∧ catSum r ≤ 8 ∧ wp [.ref b, v1, v2] h (callPost X K ls r)) := rfl
theorem e_callV3 {cs : List Nat} {b : Nat} {v1 v2 : Value} {wp : Wp} : o_callV cs 3 wp X K ls (v2 :: v1 :: .ref b :: r) h = (match h.1 b with | some (c, _) => inK cs c = true ∧ okA [v1, v2] = true ∧ catSum r ≤ 8 ∧ wp [.ref b, v1, v2] h (callPost X K ls r) | none => False) := rfl
theorem e_vsel3 {cs : List Nat} {b : Nat} {v1 v2 : Value} : o_vsel 3 cs A B ls (v2 :: v1 :: .ref b :: r) h = (match h.1 b with | some (c, _) => if inK cs c = true then A ls (v2 :: v1 :: .ref b :: r) h else B ls (v2 :: v1 :: .ref b :: r) h | none => False) := rfl
theorem e_call4 {v0 v1 v2 v3 : Value} {wp : Wp} : o_call 4 wp X K ls (v3 :: v2 :: v1 :: v0 :: r) h = (okA [v0, v1, v2, v3] = true ∧ catSum r ≤ 8 ∧ wp [v0, v1, v2, v3] h (callPost X K ls r)) := rfl
theorem e_callI4 {b : Nat} {v1 v2 v3 : Value} {wp : Wp} : o_callI 4 wp X K ls (v3 :: v2 :: v1 :: .ref b :: r) h = (okA [v1, v2, v3] = true ∧ catSum r ≤ 8 ∧ wp [.ref b, v1, v2, v3] h (callPost X K ls r)) := rfl
theorem e_callV4 {cs : List Nat} {b : Nat} {v1 v2 v3 : Value} {wp : Wp} : o_callV cs 4 wp X K ls (v3 :: v2 :: v1 :: .ref b :: r) h = (match h.1 b with | some (c, _) => inK cs c = true ∧ okA [v1, v2, v3] = true ∧ catSum r ≤ 8 ∧ wp [.ref b, v1, v2, v3] h (callPost X K ls r) | none => False) := rfl
theorem e_vsel4 {cs : List Nat} {b : Nat} {v1 v2 v3 : Value} : o_vsel 4 cs A B ls (v3 :: v2 :: v1 :: .ref b :: r) h = (match h.1 b with | some (c, _) => if inK cs c = true then A ls (v3 :: v2 :: v1 :: .ref b :: r) h else B ls (v3 :: v2 :: v1 :: .ref b :: r) h | none => False) := rfl
theorem e_call5 {v0 v1 v2 v3 v4 : Value} {wp : Wp} : o_call 5 wp X K ls (v4 :: v3 :: v2 :: v1 :: v0 :: r) h = (okA [v0, v1, v2, v3, v4] = true ∧ catSum r ≤ 8 ∧ wp [v0, v1, v2, v3, v4] h (callPost X K ls r)) := rfl
theorem e_callI5 {b : Nat} {v1 v2 v3 v4 : Value} {wp : Wp} : o_callI 5 wp X K ls (v4 :: v3 :: v2 :: v1 :: .ref b :: r) h = (okA [v1, v2, v3, v4] = true ∧ catSum r ≤ 8 ∧ wp [.ref b, v1, v2, v3, v4] h (callPost X K ls r)) := rfl
theorem e_callV5 {cs : List Nat} {b : Nat} {v1 v2 v3 v4 : Value} {wp : Wp} : o_callV cs 5 wp X K ls (v4 :: v3 :: v2 :: v1 :: .ref b :: r) h = (match h.1 b with | some (c, _) => inK cs c = true ∧ okA [v1, v2, v3, v4] = true ∧ catSum r ≤ 8 ∧ wp [.ref b, v1, v2, v3, v4] h (callPost X K ls r) | none => False) := rfl
theorem e_vsel5 {cs : List Nat} {b : Nat} {v1 v2 v3 v4 : Value} : o_vsel 5 cs A B ls (v4 :: v3 :: v2 :: v1 :: .ref b :: r) h = (match h.1 b with | some (c, _) => if inK cs c = true then A ls (v4 :: v3 :: v2 :: v1 :: .ref b :: r) h else B ls (v4 :: v3 :: v2 :: v1 :: .ref b :: r) h | none => False) := rfl
theorem e_call6 {v0 v1 v2 v3 v4 v5 : Value} {wp : Wp} : o_call 6 wp X K ls (v5 :: v4 :: v3 :: v2 :: v1 :: v0 :: r) h = (okA [v0, v1, v2, v3, v4, v5] = true ∧ catSum r ≤ 8 ∧ wp [v0, v1, v2, v3, v4, v5] h (callPost X K ls r)) := rfl
theorem e_callI6 {b : Nat} {v1 v2 v3 v4 v5 : Value} {wp : Wp} : o_callI 6 wp X K ls (v5 :: v4 :: v3 :: v2 :: v1 :: .ref b :: r) h = (okA [v1, v2, v3, v4, v5] = true ∧ catSum r ≤ 8 ∧ wp [.ref b, v1, v2, v3, v4, v5] h (callPost X K ls r)) := rfl
theorem e_callV6 {cs : List Nat} {b : Nat} {v1 v2 v3 v4 v5 : Value} {wp : Wp} : o_callV cs 6 wp X K ls (v5 :: v4 :: v3 :: v2 :: v1 :: .ref b :: r) h = (match h.1 b with | some (c, _) => inK cs c = true ∧ okA [v1, v2, v3, v4, v5] = true ∧ catSum r ≤ 8 ∧ wp [.ref b, v1, v2, v3, v4, v5] h (callPost X K ls r) | none => False) := rfl
theorem e_vsel6 {cs : List Nat} {b : Nat} {v1 v2 v3 v4 v5 : Value} : o_vsel 6 cs A B ls (v5 :: v4 :: v3 :: v2 :: v1 :: .ref b :: r) h = (match h.1 b with | some (c, _) => if inK cs c = true then A ls (v5 :: v4 :: v3 :: v2 :: v1 :: .ref b :: r) h else B ls (v5 :: v4 :: v3 :: v2 :: v1 :: .ref b :: r) h | none => False) := rfl
theorem e_call7 {v0 v1 v2 v3 v4 v5 v6 : Value} {wp : Wp} : o_call 7 wp X K ls (v6 :: v5 :: v4 :: v3 :: v2 :: v1 :: v0 :: r) h = (okA [v0, v1, v2, v3, v4, v5, v6] = true ∧ catSum r ≤ 8 ∧ wp [v0, v1, v2, v3, v4, v5, v6] h (callPost X K ls r)) := rfl
theorem e_callI7 {b : Nat} {v1 v2 v3 v4 v5 v6 : Value} {wp : Wp} : o_callI 7 wp X K ls (v6 :: v5 :: v4 :: v3 :: v2 :: v1 :: .ref b :: r) h = (okA [v1, v2, v3, v4, v5, v6] = true ∧ catSum r ≤ 8 ∧ wp [.ref b, v1, v2, v3, v4, v5, v6] h (callPost X K ls r)) := rfl
theorem e_callV7 {cs : List Nat} {b : Nat} {v1 v2 v3 v4 v5 v6 : Value} {wp : Wp} : o_callV cs 7 wp X K ls (v6 :: v5 :: v4 :: v3 :: v2 :: v1 :: .ref b :: r) h = (match h.1 b with | some (c, _) => inK cs c = true ∧ okA [v1, v2, v3, v4, v5, v6] = true ∧ catSum r ≤ 8 ∧ wp [.ref b, v1, v2, v3, v4, v5, v6] h (callPost X K ls r) | none => False) := rfl
theorem e_vsel7 {cs : List Nat} {b : Nat} {v1 v2 v3 v4 v5 v6 : Value} : o_vsel 7 cs A B ls (v6 :: v5 :: v4 :: v3 :: v2 :: v1 :: .ref b :: r) h = (match h.1 b with | some (c, _) => if inK cs c = true then A ls (v6 :: v5 :: v4 :: v3 :: v2 :: v1 :: .ref b :: r) h else B ls (v6 :: v5 :: v4 :: v3 :: v2 :: v1 :: .ref b :: r) h | none => False) := rfl
theorem e_callLam {t a : Nat} {wp : Wp} : o_callLam wp X K ls (.ref a :: .ref t :: r) h = (okA [.ref t, .ref a] = true ∧ catSum r ≤ 8 ∧ wLam wp [.ref t, .ref a] h (callPost X K ls r)) := rfl
theorem e_cp0 : callPost X K ls r (.inl none) h = K ls r h := rfl
theorem e_cp1 {v : Value} : callPost X K ls r (.inl (some v)) h = K ls (v :: r) h := rfl
theorem e_cpx {q : Nat} : callPost X K ls r (.inr q) h = X ls q h := rfl
theorem e_imax {v w : Int32} : o_imax K ls (.int w :: .int v :: r) h = (catSum r ≤ 8 ∧ K ls (.int (if v < w then w else v) :: r) h) := rfl
theorem e_imin {v w : Int32} : o_imin K ls (.int w :: .int v :: r) h = (catSum r ≤ 8 ∧ K ls (.int (if w < v then w else v) :: r) h) := rfl
theorem e_sw {v : Int32} {L : List (Int32 × Ct)} : o_sw L K ls (.int v :: r) h = swGo v L K ls r h := rfl
theorem e_sw0 {v : Int32} : swGo v [] K = K := rfl
theorem e_sw1 {v k : Int32} {L : List (Int32 × Ct)} : swGo v ((k, T) :: L) K ls st h = (if v = k then T ls st h else swGo v L K ls st h) := rfl
theorem ok_nil : okA [] = true := rfl
theorem ok_i {z : Int32} {l : List Value} : okA (.int z :: l) = okA l := rfl
theorem ok_r {z : Nat} {l : List Value} : okA (.ref z :: l) = okA l := rfl
theorem ok_n {l : List Value} : okA (.null :: l) = okA l := rfl
theorem cs_nil : catSum [] = 0 := rfl
theorem cs_i {z : Int32} {l : List Value} : catSum (.int z :: l) = 1 + catSum l := rfl
theorem cs_r {z : Nat} {l : List Value} : catSum (.ref z :: l) = 1 + catSum l := rfl
theorem cs_n {l : List Value} : catSum (.null :: l) = 1 + catSum l := rfl
theorem cs_d {z : UInt64} {l : List Value} : catSum (.double z :: l) = 2 + catSum l := rfl
theorem cs_f {z : UInt32} {l : List Value} : catSum (.float z :: l) = 1 + catSum l := rfl
theorem cat_i {z : Int32} : (Value.int z).category = 1 := rfl
theorem cat_r {z : Nat} : (Value.ref z).category = 1 := rfl
theorem cat_n : Value.null.category = 1 := rfl
theorem na_i {z : Int32} : narrow .int (.int z) = .int z := rfl
theorem na_ar {z : Nat} {C : String} : narrow (.object C) (.ref z) = .ref z := rfl
theorem na_an {C : String} : narrow (.object C) .null = .null := rfl
theorem na_rr {z : Nat} {t : FieldType} : narrow (.array t) (.ref z) = .ref z := rfl
theorem na_rn {t : FieldType} : narrow (.array t) .null = .null := rfl
theorem na_z0 : narrow .boolean (.int 0) = .int 0 := rfl
theorem na_z1 : narrow .boolean (.int 1) = .int 1 := rfl
theorem na_b0 : narrow .byte (.int 0) = .int 0 := rfl
theorem na_b1 : narrow .byte (.int 1) = .int 1 := rfl
theorem fi_i {z : Int32} : fits .int (.int z) = true := rfl
theorem fi_ar {z : Nat} {C : String} : fits (.object C) (.ref z) = true := rfl
theorem fi_an {C : String} : fits (.object C) .null = true := rfl
theorem fi_rr {z : Nat} {t : FieldType} : fits (.array t) (.ref z) = true := rfl
theorem fi_rn {t : FieldType} : fits (.array t) .null = true := rfl
theorem fi_z0 : fits .boolean (.int 0) = true := rfl
theorem fi_z1 : fits .boolean (.int 1) = true := rfl
theorem fi_b0 : fits .byte (.int 0) = true := rfl
theorem fi_b1 : fits .byte (.int 1) = true := rfl
end CALC
theorem ik_0_0 : inK [0] 0 = true := rfl
theorem ik_1_1 : inK [1] 1 = true := rfl
theorem ik_10_10 : inK [10] 10 = true := rfl
theorem ik_10_11_10 : inK [10, 11] 10 = true := rfl
theorem ik_10_11_11 : inK [10, 11] 11 = true := rfl
theorem ik_100_100 : inK [100] 100 = true := rfl
theorem ik_100_300 : inK [100] 300 = true := rfl
theorem ik_101_102_101 : inK [101, 102] 101 = true := rfl
theorem ik_101_102_102 : inK [101, 102] 102 = true := rfl
theorem ik_101_102_302 : inK [101, 102] 302 = true := rfl
theorem ik_102_102 : inK [102] 102 = true := rfl
theorem ik_102_302 : inK [102] 302 = true := rfl
theorem ik_103_104_105_106_107_103 : inK [103, 104, 105, 106, 107] 103 = true := rfl
theorem ik_103_104_105_106_107_303 : inK [103, 104, 105, 106, 107] 303 = true := rfl
theorem ik_103_104_105_106_107_104 : inK [103, 104, 105, 106, 107] 104 = true := rfl
theorem ik_103_104_105_106_107_105 : inK [103, 104, 105, 106, 107] 105 = true := rfl
theorem ik_103_104_105_106_107_106 : inK [103, 104, 105, 106, 107] 106 = true := rfl
theorem ik_103_104_105_106_107_107 : inK [103, 104, 105, 106, 107] 107 = true := rfl
theorem ik_103_104_105_106_107_307 : inK [103, 104, 105, 106, 107] 307 = true := rfl
theorem ik_107_107 : inK [107] 107 = true := rfl
theorem ik_107_307 : inK [107] 307 = true := rfl
theorem ik_11_11 : inK [11] 11 = true := rfl
theorem ik_12_12 : inK [12] 12 = true := rfl
theorem ik_14_14 : inK [14] 14 = true := rfl
theorem ik_14_15_14 : inK [14, 15] 14 = true := rfl
theorem ik_14_15_15 : inK [14, 15] 15 = true := rfl
theorem ik_15_15 : inK [15] 15 = true := rfl
theorem ik_16_16 : inK [16] 16 = true := rfl
theorem ik_17_17 : inK [17] 17 = true := rfl
theorem ik_18_18 : inK [18] 18 = true := rfl
theorem ik_19_19 : inK [19] 19 = true := rfl
theorem ik_19_219 : inK [19] 219 = true := rfl
theorem ik_2_2 : inK [2] 2 = true := rfl
theorem ik_2_4_2 : inK [2, 4] 2 = true := rfl
theorem ik_2_4_4 : inK [2, 4] 4 = true := rfl
theorem ik_20_20 : inK [20] 20 = true := rfl
theorem ik_21_21 : inK [21] 21 = true := rfl
theorem ik_21_221 : inK [21] 221 = true := rfl
theorem ik_21_22_21 : inK [21, 22] 21 = true := rfl
theorem ik_21_22_221 : inK [21, 22] 221 = true := rfl
theorem ik_21_22_22 : inK [21, 22] 22 = true := rfl
theorem ik_21_22_222 : inK [21, 22] 222 = true := rfl
theorem ik_3_3 : inK [3] 3 = true := rfl
theorem ik_4_4 : inK [4] 4 = true := rfl
theorem ik_5_5 : inK [5] 5 = true := rfl
theorem ik_6_6 : inK [6] 6 = true := rfl
theorem ik_6_9_13_6 : inK [6, 9, 13] 6 = true := rfl
theorem ik_6_9_13_9 : inK [6, 9, 13] 9 = true := rfl
theorem ik_6_9_13_13 : inK [6, 9, 13] 13 = true := rfl
theorem ik_7_7 : inK [7] 7 = true := rfl
theorem ik_8_8 : inK [8] 8 = true := rfl
theorem ik_9_9 : inK [9] 9 = true := rfl
theorem jk__9 : inK [] 9 = false := rfl
theorem jk_10_2 : inK [10] 2 = false := rfl
theorem jk_10_4 : inK [10] 4 = false := rfl
theorem jk_10_10 : inK [10] 10 = true := rfl
theorem jk_10_11 : inK [10] 11 = false := rfl
theorem jk_10_18 : inK [10] 18 = false := rfl
theorem jk_10_19 : inK [10] 19 = false := rfl
theorem jk_10_21 : inK [10] 21 = false := rfl
theorem jk_10_22 : inK [10] 22 = false := rfl
theorem jk_10_219 : inK [10] 219 = false := rfl
theorem jk_10_221 : inK [10] 221 = false := rfl
theorem jk_10_222 : inK [10] 222 = false := rfl
theorem jk_11_10 : inK [11] 10 = false := rfl
theorem jk_11_11 : inK [11] 11 = true := rfl
theorem jk_14_2 : inK [14] 2 = false := rfl
theorem jk_14_4 : inK [14] 4 = false := rfl
theorem jk_14_10 : inK [14] 10 = false := rfl
theorem jk_14_11 : inK [14] 11 = false := rfl
theorem jk_14_18 : inK [14] 18 = false := rfl
theorem jk_14_19 : inK [14] 19 = false := rfl
theorem jk_14_21 : inK [14] 21 = false := rfl
theorem jk_14_22 : inK [14] 22 = false := rfl
theorem jk_14_219 : inK [14] 219 = false := rfl
theorem jk_14_221 : inK [14] 221 = false := rfl
theorem jk_14_222 : inK [14] 222 = false := rfl
theorem jk_15_2 : inK [15] 2 = false := rfl
theorem jk_15_4 : inK [15] 4 = false := rfl
theorem jk_15_10 : inK [15] 10 = false := rfl
theorem jk_15_11 : inK [15] 11 = false := rfl
theorem jk_15_18 : inK [15] 18 = false := rfl
theorem jk_15_19 : inK [15] 19 = false := rfl
theorem jk_15_21 : inK [15] 21 = false := rfl
theorem jk_15_22 : inK [15] 22 = false := rfl
theorem jk_15_219 : inK [15] 219 = false := rfl
theorem jk_15_221 : inK [15] 221 = false := rfl
theorem jk_15_222 : inK [15] 222 = false := rfl
theorem jk_18_2 : inK [18] 2 = false := rfl
theorem jk_18_4 : inK [18] 4 = false := rfl
theorem jk_18_10 : inK [18] 10 = false := rfl
theorem jk_18_11 : inK [18] 11 = false := rfl
theorem jk_18_18 : inK [18] 18 = true := rfl
theorem jk_18_19 : inK [18] 19 = false := rfl
theorem jk_18_21 : inK [18] 21 = false := rfl
theorem jk_18_22 : inK [18] 22 = false := rfl
theorem jk_18_219 : inK [18] 219 = false := rfl
theorem jk_18_221 : inK [18] 221 = false := rfl
theorem jk_18_222 : inK [18] 222 = false := rfl
theorem jk_2_2 : inK [2] 2 = true := rfl
theorem jk_2_4 : inK [2] 4 = false := rfl
theorem jk_2_10 : inK [2] 10 = false := rfl
theorem jk_2_11 : inK [2] 11 = false := rfl
theorem jk_2_18 : inK [2] 18 = false := rfl
theorem jk_2_19 : inK [2] 19 = false := rfl
theorem jk_2_21 : inK [2] 21 = false := rfl
theorem jk_2_22 : inK [2] 22 = false := rfl
theorem jk_2_219 : inK [2] 219 = false := rfl
theorem jk_2_221 : inK [2] 221 = false := rfl
theorem jk_2_222 : inK [2] 222 = false := rfl
theorem jk_21_2 : inK [21] 2 = false := rfl
theorem jk_21_4 : inK [21] 4 = false := rfl
theorem jk_21_10 : inK [21] 10 = false := rfl
theorem jk_21_11 : inK [21] 11 = false := rfl
theorem jk_21_18 : inK [21] 18 = false := rfl
theorem jk_21_19 : inK [21] 19 = false := rfl
theorem jk_21_21 : inK [21] 21 = true := rfl
theorem jk_21_22 : inK [21] 22 = false := rfl
theorem jk_21_219 : inK [21] 219 = false := rfl
theorem jk_21_221 : inK [21] 221 = true := rfl
theorem jk_21_222 : inK [21] 222 = false := rfl
theorem jk_6_6 : inK [6] 6 = true := rfl
theorem jk_6_9 : inK [6] 9 = false := rfl
theorem jk_9_6 : inK [9] 6 = false := rfl
theorem jk_9_9 : inK [9] 9 = true := rfl
theorem kd_100 : kd 100 = 100 := rfl
theorem kd_101 : kd 101 = 101 := rfl
theorem kd_102 : kd 102 = 102 := rfl
theorem kd_103 : kd 103 = 103 := rfl
theorem kd_104 : kd 104 = 104 := rfl
theorem kd_105 : kd 105 = 105 := rfl
theorem kd_106 : kd 106 = 106 := rfl
theorem kd_107 : kd 107 = 107 := rfl
theorem kd_300 : kd 300 = 100 := rfl
theorem kd_302 : kd 302 = 102 := rfl
theorem kd_303 : kd 303 = 103 := rfl
theorem kd_307 : kd 307 = 107 := rfl
/-! the heap's equations -/
theorem hset_at (h : HS) (a b : Nat) (o : Nat × List Value) : (hset h a o).1 b = if b = a then some o else h.1 b := rfl
theorem hset_2 (h : HS) (a : Nat) (o : Nat × List Value) : (hset h a o).2 = h.2 := rfl
theorem hnew_at (h : HS) (b n : Nat) (o : Nat × List Value) : (hnew h o n).1 b = if b = h.2.1 then some o else h.1 b := rfl
theorem hnew_2 (h : HS) (n : Nat) (o : Nat × List Value) : (hnew h o n).2 = (h.2.1 + 1, h.2.2.1 - 1, h.2.2.2 - n) := rfl
/-- nothing lies behind the next address -/
def WF (h : HS) : Prop := ∀ a, h.2.1 ≤ a → h.1 a = none
theorem WF.lt {h : HS} (w : WF h) {a : Nat} {o : Nat × List Value} (ha : h.1 a = some o) : a < h.2.1 := by
  rcases Nat.lt_or_ge a h.2.1 with q | q
  · exact q
  · rw [w a q] at ha; cases ha
theorem WF.ne {h : HS} (w : WF h) {a : Nat} {o : Nat × List Value} (ha : h.1 a = some o) : ¬ a = h.2.1 := Nat.ne_of_lt (w.lt ha)
theorem WF.set {h : HS} (w : WF h) {a : Nat} {o o' : Nat × List Value} (ha : h.1 a = some o) : WF (hset h a o') := by
  intro b hb
  have hb : h.2.1 ≤ b := hb
  rw [hset_at, if_neg (by have := w.lt ha; omega)]
  exact w b hb
theorem WF.new {h : HS} (w : WF h) (o : Nat × List Value) (n : Nat) : WF (hnew h o n) := by
  intro b hb
  have hb : h.2.1 + 1 ≤ b := hb
  rw [hnew_at, if_neg (by omega)]
  exact w b (by omega)
/-- two cells of different kinds lie apart -/
theorem ne_kind {h : HS} {a b c d : Nat} {us vs : List Value} (ha : h.1 a = some (c, us)) (hb : h.1 b = some (d, vs)) (hcd : c ≠ d) : a ≠ b := by
  rintro rfl
  rw [ha] at hb
  cases hb
  exact hcd rfl
