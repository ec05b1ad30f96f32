set_option maxRecDepth 100000
/-! definitions alone (dev set of the House) -/
abbrev xj_E : Type := (Nat × vp_A) ⊕ (Nat × List Value)
abbrev xj_M : Type := MethodName × ByteArray × Nat × Option FieldType × List (Nat × Nat × Nat × Nat) × Nat
def tyJ0 : Nat → FieldType := fun k => match k with
  | 0 => .object "java/lang/Throwable"
  | 1 => .array (.object "java/lang/StackTraceElement")
  | 2 => .object "java/util/List"
  | 3 => .object "java/lang/String"
  | _ => .object "java/lang/Object"
def tyJ12 : Nat → FieldType := fun k => match k with
  | 0 => .array .byte
  | 1 => .byte
  | 2 => .int
  | _ => .boolean
def tyJ17 : Nat → FieldType := fun k => match k with
  | 0 => .array .byte
  | 1 => .byte
  | 2 => .boolean
  | _ => .int
def tyJ19 : Nat → FieldType := fun k => match k with
  | _ => .int
def tyJ3 : Nat → FieldType := fun k => match k with
  | 0 => .object "java/lang/Throwable"
  | 1 => .array (.object "java/lang/StackTraceElement")
  | 2 => .object "java/util/List"
  | 3 => .object "java/lang/String"
  | 4 => .object "java/lang/Object"
  | _ => .int
def tyJ6 : Nat → FieldType := fun k => match k with
  | 0 => .int
  | 1 => .array (.object "java/lang/Object")
  | _ => .int
def tyX0 : Nat → FieldType := fun k => match k with
  | 0 => .object "MlHouse$Faults"
  | 1 => .object "MlHouse$Types"
  | 2 => .object "MlHouse$Parser"
  | 3 => .object "MlHouse$Judge"
  | 4 => .object "MlHouse$Cover"
  | 5 => .object "MlHouse$Machine"
  | 6 => .object "MlHouse$Teller"
  | 7 => .object "MlHouse$Base"
  | 8 => .array (.object "MlHouse$Base")
  | 9 => .object "java/util/ArrayList"
  | 10 => .object "java/util/ArrayList"
  | 11 => .object "java/util/ArrayList"
  | 12 => .object "java/util/ArrayList"
  | 13 => .object "java/util/ArrayList"
  | 14 => .array .long
  | 15 => .int
  | 16 => .int
  | 17 => .int
  | 18 => .array .int
  | 19 => .int
  | 20 => .array .byte
  | 21 => .array .byte
  | 22 => .int
  | 23 => .int
  | 24 => .int
  | 25 => .int
  | 26 => .int
  | 27 => .int
  | 28 => .array .int
  | 29 => .array .int
  | _ => .int
def tyX1 : Nat → FieldType := fun k => match k with
  | 0 => .object "java/lang/IllegalStateException"
  | 1 => .int
  | _ => .int
def tyX10 : Nat → FieldType := fun k => match k with
  | 0 => .object "MlHouse$Types"
  | 1 => .object "MlHouse$Machine"
  | 2 => .array .char
  | 3 => .int
  | 4 => .array .int
  | 5 => .object "java/util/ArrayList"
  | _ => .int
def tyX11 : Nat → FieldType := fun k => match k with
  | 0 => .object "java/util/ArrayList"
  | 1 => .object "java/util/ArrayList"
  | _ => .object "java/util/ArrayList"
def tyX12 : Nat → FieldType := fun k => match k with
  | 0 => .object "java/lang/String"
  | 1 => .int
  | 2 => .int
  | 3 => .object "java/util/ArrayList"
  | 4 => .boolean
  | _ => .int
def tyX13 : Nat → FieldType := fun k => match k with
  | 0 => .object "java/lang/String"
  | 1 => .int
  | 2 => .object "MlHouse$Data"
  | _ => .object "MlHouse$Scheme"
def tyX14 : Nat → FieldType := fun k => match k with
  | 0 => .array .int
  | 1 => .array (.object "java/lang/String")
  | _ => .int
def tyX15 : Nat → FieldType := fun k => match k with
  | 0 => .object "java/lang/String"
  | 1 => .int
  | 2 => .int
  | 3 => .int
  | 4 => .boolean
  | 5 => .object "MlHouse$Scheme"
  | 6 => .object "MlHouse$Con"
  | 7 => .boolean
  | 8 => .object "MlHouse$Binding"
  | 9 => .int
  | 10 => .boolean
  | 11 => .int
  | _ => .object "MlHouse$Maker"
def tyX16 : Nat → FieldType := fun k => match k with
  | 0 => .object "java/lang/String"
  | 1 => .object "MlHouse$Data"
  | 2 => .int
  | _ => .object "MlHouse$Scheme"
def tyX17 : Nat → FieldType := fun k => match k with
  | 0 => .int
  | 1 => .array .int
  | 2 => .array .int
  | 3 => .array .int
  | 4 => .int
  | 5 => .int
  | 6 => .int
  | 7 => .array .int
  | 8 => .array .int
  | 9 => .array .int
  | 10 => .array .int
  | 11 => .array .int
  | 12 => .int
  | 13 => .int
  | 14 => .array .int
  | 15 => .int
  | 16 => .int
  | 17 => .int
  | 18 => .int
  | 19 => .int
  | 20 => .int
  | 21 => .int
  | 22 => .int
  | 23 => .int
  | 24 => .int
  | 25 => .int
  | 26 => .int
  | 27 => .int
  | 28 => .int
  | 29 => .array .byte
  | 30 => .int
  | 31 => .int
  | 32 => .int
  | 33 => .array .int
  | 34 => .array .int
  | 35 => .array .int
  | 36 => .array .int
  | 37 => .array .int
  | 38 => .array .int
  | 39 => .array .int
  | 40 => .int
  | 41 => .int
  | 42 => .int
  | 43 => .int
  | 44 => .array .int
  | 45 => .array .int
  | 46 => .int
  | 47 => .int
  | 48 => .int
  | 49 => .array .int
  | 50 => .array .int
  | 51 => .array .int
  | 52 => .array .int
  | 53 => .int
  | 54 => .int
  | 55 => .int
  | 56 => .int
  | 57 => .array .byte
  | 58 => .array .byte
  | 59 => .array .int
  | 60 => .array .int
  | 61 => .array .int
  | 62 => .array .int
  | 63 => .array .int
  | 64 => .array .int
  | 65 => .array .int
  | 66 => .int
  | 67 => .int
  | 68 => .int
  | 69 => .array .int
  | 70 => .array .int
  | 71 => .array .int
  | 72 => .array .int
  | 73 => .array .boolean
  | 74 => .int
  | 75 => .array .int
  | 76 => .array .int
  | 77 => .array .int
  | 78 => .int
  | 79 => .int
  | 80 => .array .int
  | 81 => .array .int
  | 82 => .array .int
  | 83 => .int
  | 84 => .int
  | 85 => .array .int
  | 86 => .int
  | 87 => .array .int
  | 88 => .array .int
  | 89 => .array .int
  | 90 => .array .int
  | 91 => .array .int
  | 92 => .array .int
  | 93 => .array .int
  | 94 => .int
  | 95 => .int
  | 96 => .array .int
  | 97 => .array .int
  | 98 => .array .int
  | 99 => .array .int
  | 100 => .array .int
  | 101 => .int
  | 102 => .int
  | 103 => .array .int
  | 104 => .array .int
  | 105 => .array .int
  | 106 => .int
  | 107 => .array .int
  | 108 => .int
  | 109 => .array .int
  | 110 => .int
  | 111 => .boolean
  | 112 => .boolean
  | 113 => .int
  | 114 => .int
  | 115 => .int
  | 116 => .int
  | 117 => .int
  | 118 => .int
  | 119 => .int
  | 120 => .int
  | 121 => .int
  | 122 => .array .int
  | 123 => .array .int
  | 124 => .array .int
  | 125 => .int
  | 126 => .int
  | 127 => .int
  | 128 => .array .int
  | 129 => .int
  | 130 => .array .int
  | 131 => .array .int
  | 132 => .array .int
  | 133 => .array .int
  | 134 => .int
  | 135 => .int
  | 136 => .int
  | 137 => .long
  | 138 => .int
  | 139 => .array .int
  | 140 => .array .int
  | 141 => .array .int
  | 142 => .array .int
  | 143 => .array .int
  | 144 => .array .int
  | 145 => .array .int
  | 146 => .array .int
  | 147 => .array .int
  | 148 => .int
  | 149 => .int
  | 150 => .int
  | 151 => .array .int
  | 152 => .array .int
  | 153 => .int
  | 154 => .int
  | 155 => .int
  | 156 => .array .int
  | 157 => .array .int
  | 158 => .array .boolean
  | 159 => .int
  | 160 => .array .boolean
  | 161 => .int
  | 162 => .array .int
  | 163 => .int
  | 164 => .array .int
  | 165 => .array .int
  | 166 => .int
  | 167 => .array .int
  | 168 => .array .int
  | 169 => .int
  | 170 => .array .int
  | 171 => .int
  | 172 => .int
  | 173 => .int
  | 174 => .int
  | 175 => .int
  | 176 => .int
  | 177 => .array .int
  | 178 => .int
  | 179 => .long
  | 180 => .array .long
  | 181 => .int
  | 182 => .int
  | 183 => .array .long
  | 184 => .int
  | 185 => .long
  | 186 => .int
  | 187 => .int
  | 188 => .int
  | 189 => .int
  | 190 => .array .long
  | 191 => .int
  | 192 => .int
  | 193 => .int
  | 194 => .int
  | 195 => .int
  | 196 => .long
  | 197 => .array .int
  | 198 => .array .int
  | 199 => .array .int
  | 200 => .array .int
  | 201 => .int
  | 202 => .int
  | 203 => .array .int
  | 204 => .array .long
  | 205 => .int
  | 206 => .int
  | 207 => .boolean
  | 208 => .long
  | 209 => .long
  | 210 => .long
  | 211 => .long
  | 212 => .long
  | 213 => .long
  | 214 => .long
  | 215 => .long
  | 216 => .array .int
  | 217 => .array .int
  | 218 => .array .int
  | 219 => .array .long
  | 220 => .array .long
  | 221 => .array .int
  | 222 => .long
  | 223 => .long
  | 224 => .array .int
  | 225 => .int
  | 226 => .int
  | 227 => .int
  | 228 => .array .int
  | 229 => .int
  | 230 => .int
  | 231 => .array .int
  | 232 => .array .int
  | 233 => .array .int
  | 234 => .array .int
  | 235 => .int
  | 236 => .array .int
  | 237 => .array .int
  | 238 => .array .int
  | 239 => .int
  | 240 => .int
  | 241 => .int
  | 242 => .int
  | 243 => .int
  | 244 => .int
  | 245 => .int
  | 246 => .int
  | 247 => .boolean
  | 248 => .boolean
  | 249 => .int
  | 250 => .array .int
  | 251 => .array .int
  | _ => .array .int
def tyX18 : Nat → FieldType := fun k => match k with
  | 0 => .object "MlHouse$Kind"
  | 1 => .int
  | 2 => .object "java/lang/String"
  | _ => .int
def tyX2 : Nat → FieldType := fun k => match k with
  | 0 => .object "java/util/ArrayList"
  | 1 => .array .int
  | 2 => .array .int
  | 3 => .array .int
  | 4 => .array .int
  | 5 => .array .int
  | 6 => .array .int
  | 7 => .array (.object "java/lang/String")
  | 8 => .array .long
  | 9 => .array .int
  | 10 => .array .int
  | 11 => .int
  | 12 => .int
  | 13 => .int
  | 14 => .int
  | 15 => .int
  | 16 => .int
  | 17 => .int
  | 18 => .array .boolean
  | 19 => .int
  | 20 => .object "java/util/ArrayList"
  | 21 => .array .int
  | 22 => .array .int
  | 23 => .int
  | 24 => .int
  | 25 => .array (.object "java/lang/String")
  | 26 => .int
  | 27 => .int
  | _ => .array .int
def tyX21 : Nat → FieldType := fun k => match k with
  | 0 => .object "java/util/ArrayList"
  | 1 => .object "java/util/ArrayList"
  | 2 => .int
  | 3 => .int
  | 4 => .object "java/util/ArrayList"
  | 5 => .object "java/util/ArrayList"
  | _ => .boolean
def tyX23 : Nat → FieldType := fun k => match k with
  | 0 => .int
  | 1 => .object "java/util/ArrayList"
  | 2 => .object "java/util/ArrayList"
  | 3 => .object "java/util/ArrayList"
  | 4 => .boolean
  | 5 => .int
  | _ => .int
def tyX24 : Nat → FieldType := fun k => match k with
  | 0 => .object "java/lang/String"
  | _ => .int
def tyX26 : Nat → FieldType := fun k => match k with
  | 0 => .int
  | _ => .object "java/lang/String"
def tyX27 : Nat → FieldType := fun k => match k with
  | 0 => .int
  | 1 => .object "java/util/ArrayList"
  | 2 => .object "java/util/ArrayList"
  | _ => .object "java/util/ArrayList"
def tyX28 : Nat → FieldType := fun k => match k with
  | 0 => .int
  | 1 => .object "java/lang/String"
  | _ => .object "java/util/ArrayList"
def tyX29 : Nat → FieldType := fun k => match k with
  | 0 => .int
  | _ => .object "java/util/ArrayList"
def tyX3 : Nat → FieldType := fun k => match k with
  | 0 => .object "MlHouse$Faults"
  | 1 => .object "MlHouse$Lexer"
  | 2 => .object "java/util/ArrayList"
  | 3 => .object "java/util/ArrayList"
  | 4 => .object "MlHouse$Token"
  | 5 => .object "MlHouse$Token"
  | 6 => .int
  | 7 => .boolean
  | 8 => .object "MlHouse$Strength"
  | _ => .array (.object "java/lang/String")
def tyX30 : Nat → FieldType := fun k => match k with
  | 0 => .int
  | 1 => .object "java/lang/String"
  | 2 => .int
  | 3 => .object "MlHouse$Ty"
  | 4 => .object "MlHouse$Pat"
  | _ => .object "MlHouse$Binding"
def tyX31 : Nat → FieldType := fun k => match k with
  | 0 => .int
  | 1 => .object "java/lang/String"
  | 2 => .int
  | 3 => .boolean
  | 4 => .object "MlHouse$Binding"
  | _ => .object "MlHouse$Binding"
def tyX32 : Nat → FieldType := fun k => match k with
  | 0 => .int
  | 1 => .object "MlHouse$Pat"
  | _ => .object "MlHouse$Ty"
def tyX33 : Nat → FieldType := fun k => match k with
  | 0 => .int
  | _ => .object "java/util/ArrayList"
def tyX34 : Nat → FieldType := fun k => match k with
  | _ => .int
def tyX35 : Nat → FieldType := fun k => match k with
  | 0 => .int
  | _ => .object "MlHouse$Token"
def tyX36 : Nat → FieldType := fun k => match k with
  | 0 => .int
  | 1 => .object "java/lang/String"
  | 2 => .int
  | 3 => .boolean
  | 4 => .object "MlHouse$Pat"
  | _ => .object "MlHouse$Binding"
def tyX38 : Nat → FieldType := fun k => match k with
  | 0 => .int
  | _ => .object "MlHouse$Exp"
def tyX39 : Nat → FieldType := fun k => match k with
  | 0 => .int
  | 1 => .object "MlHouse$Exp"
  | 2 => .object "MlHouse$Exp"
  | _ => .object "MlHouse$Exp"
def tyX4 : Nat → FieldType := fun k => match k with
  | 0 => .object "java/lang/String"
  | 1 => .int
  | _ => .boolean
def tyX40 : Nat → FieldType := fun k => match k with
  | 0 => .int
  | 1 => .object "MlHouse$Exp"
  | _ => .object "MlHouse$Exp"
def tyX41 : Nat → FieldType := fun k => match k with
  | 0 => .int
  | 1 => .object "MlHouse$Exp"
  | 2 => .object "MlHouse$Rules"
  | _ => .int
def tyX42 : Nat → FieldType := fun k => match k with
  | 0 => .object "java/util/ArrayList"
  | _ => .int
def tyX43 : Nat → FieldType := fun k => match k with
  | 0 => .object "MlHouse$Pat"
  | _ => .object "MlHouse$Exp"
def tyX44 : Nat → FieldType := fun k => match k with
  | 0 => .int
  | 1 => .object "MlHouse$Rules"
  | _ => .int
def tyX45 : Nat → FieldType := fun k => match k with
  | 0 => .int
  | _ => .object "java/util/ArrayList"
def tyX46 : Nat → FieldType := fun k => match k with
  | 0 => .int
  | 1 => .object "java/util/ArrayList"
  | 2 => .object "java/util/ArrayList"
  | _ => .object "java/util/ArrayList"
def tyX47 : Nat → FieldType := fun k => match k with
  | 0 => .int
  | _ => .object "java/util/ArrayList"
def tyX48 : Nat → FieldType := fun k => match k with
  | 0 => .int
  | 1 => .object "java/util/ArrayList"
  | _ => .object "MlHouse$Exp"
def tyX49 : Nat → FieldType := fun k => match k with
  | 0 => .int
  | 1 => .object "java/lang/String"
  | 2 => .int
  | _ => .int
def tyX5 : Nat → FieldType := fun k => match k with
  | 0 => .array (.object "java/lang/String")
  | 1 => .array .byte
  | 2 => .object "MlHouse$Faults"
  | 3 => .int
  | 4 => .int
  | 5 => .int
  | 6 => .object "java/util/ArrayList"
  | 7 => .array .int
  | _ => .array .int
def tyX50 : Nat → FieldType := fun k => match k with
  | 0 => .int
  | 1 => .object "java/lang/String"
  | 2 => .int
  | _ => .object "MlHouse$Binding"
def tyX51 : Nat → FieldType := fun k => match k with
  | 0 => .int
  | _ => .object "MlHouse$Token"
def tyX52 : Nat → FieldType := fun k => match k with
  | 0 => .int
  | 1 => .object "MlHouse$Exp"
  | _ => .object "java/util/ArrayList"
def tyX53 : Nat → FieldType := fun k => match k with
  | 0 => .int
  | 1 => .object "MlHouse$Use"
  | 2 => .object "MlHouse$Exp"
  | _ => .object "MlHouse$Exp"
def tyX54 : Nat → FieldType := fun k => match k with
  | 0 => .int
  | 1 => .object "MlHouse$Exp"
  | _ => .object "MlHouse$Ty"
def tyX55 : Nat → FieldType := fun k => match k with
  | 0 => .int
  | 1 => .boolean
  | 2 => .object "MlHouse$Exp"
  | _ => .object "MlHouse$Exp"
def tyX56 : Nat → FieldType := fun k => match k with
  | 0 => .int
  | 1 => .object "MlHouse$Exp"
  | 2 => .object "MlHouse$Rules"
  | _ => .int
def tyX57 : Nat → FieldType := fun k => match k with
  | 0 => .object "java/util/ArrayList"
  | 1 => .object "java/util/ArrayList"
  | 2 => .int
  | 3 => .int
  | _ => .object "java/util/ArrayList"
def tyX58 : Nat → FieldType := fun k => match k with
  | 0 => .int
  | 1 => .object "java/util/ArrayList"
  | _ => .object "MlHouse$Binding"
def tyX59 : Nat → FieldType := fun k => match k with
  | 0 => .object "java/lang/String"
  | 1 => .int
  | 2 => .object "java/util/ArrayList"
  | 3 => .object "MlHouse$Ty"
  | _ => .object "MlHouse$Exp"
def tyX6 : Nat → FieldType := fun k => match k with
  | 0 => .object "MlHouse$Types"
  | 1 => .object "MlHouse$Faults"
  | 2 => .object "java/util/ArrayList"
  | 3 => .object "java/util/ArrayList"
  | 4 => .object "java/util/ArrayList"
  | 5 => .object "java/util/ArrayList"
  | 6 => .object "java/util/ArrayList"
  | 7 => .boolean
  | 8 => .boolean
  | 9 => .int
  | 10 => .object "java/util/ArrayList"
  | _ => .object "java/util/ArrayList"
def tyX60 : Nat → FieldType := fun k => match k with
  | 0 => .object "java/util/ArrayList"
  | 1 => .object "java/lang/String"
  | 2 => .int
  | _ => .object "MlHouse$Ty"
def tyX61 : Nat → FieldType := fun k => match k with
  | _ => .object "java/util/ArrayList"
def tyX62 : Nat → FieldType := fun k => match k with
  | 0 => .object "java/util/ArrayList"
  | 1 => .object "java/lang/String"
  | 2 => .int
  | 3 => .object "java/util/ArrayList"
  | _ => .object "MlHouse$Data"
def tyX63 : Nat → FieldType := fun k => match k with
  | 0 => .object "java/lang/String"
  | 1 => .int
  | _ => .object "MlHouse$Ty"
def tyX64 : Nat → FieldType := fun k => match k with
  | 0 => .object "java/lang/String"
  | 1 => .int
  | 2 => .object "MlHouse$Ty"
  | 3 => .object "java/lang/String"
  | 4 => .int
  | 5 => .object "MlHouse$Binding"
  | 6 => .object "MlHouse$Binding"
  | _ => .object "MlHouse$Scheme"
def tyX65 : Nat → FieldType := fun k => match k with
  | 0 => .object "java/util/ArrayList"
  | _ => .object "java/util/ArrayList"
def tyX66 : Nat → FieldType := fun k => match k with
  | 0 => .object "java/lang/String"
  | 1 => .int
  | _ => .int
def tyX67 : Nat → FieldType := fun k => match k with
  | 0 => .object "MlHouse$Binding"
  | 1 => .object "MlHouse$Data"
  | 2 => .object "java/lang/String"
  | 3 => .object "java/util/ArrayList"
  | _ => .object "MlHouse$Scheme"
def tyX68 : Nat → FieldType := fun k => match k with
  | 0 => .int
  | 1 => .int
  | 2 => .object "java/util/ArrayList"
  | _ => .long
def tyX69 : Nat → FieldType := fun k => match k with
  | 0 => .object "MlHouse"
  | 1 => .object "MlHouse$Types"
  | 2 => .object "MlHouse$Maker"
  | 3 => .int
  | 4 => .object "java/util/ArrayList"
  | 5 => .int
  | 6 => .int
  | _ => .int
def tyX7 : Nat → FieldType := fun k => match k with
  | 0 => .object "MlHouse$Types"
  | 1 => .array .int
  | 2 => .array .int
  | 3 => .array .int
  | 4 => .array .int
  | 5 => .array .int
  | 6 => .array (.object "java/lang/String")
  | 7 => .array (.object "MlHouse$Binding")
  | 8 => .array .int
  | 9 => .int
  | 10 => .int
  | 11 => .int
  | 12 => .int
  | 13 => .int
  | 14 => .int
  | 15 => .int
  | 16 => .int
  | 17 => .int
  | 18 => .object "java/lang/String"
  | 19 => .object "java/lang/String"
  | 20 => .object "MlHouse$Binding"
  | 21 => .object "MlHouse$Binding"
  | 22 => .array .int
  | 23 => .array .int
  | 24 => .array .int
  | 25 => .array .int
  | 26 => .array .int
  | 27 => .array .boolean
  | 28 => .int
  | 29 => .object "MlHouse$Match"
  | 30 => .array .boolean
  | _ => .boolean
def tyX70 : Nat → FieldType := fun k => match k with
  | 0 => .array .int
  | 1 => .int
  | 2 => .int
  | _ => .int
def tyX8 : Nat → FieldType := fun k => match k with
  | 0 => .object "MlHouse"
  | 1 => .object "MlHouse$Ends"
  | 2 => .array .long
  | 3 => .array .long
  | 4 => .array (.object "MlHouse$Routine")
  | 5 => .array .int
  | 6 => .array .int
  | 7 => .array .int
  | 8 => .array .int
  | 9 => .int
  | 10 => .int
  | 11 => .int
  | 12 => .int
  | 13 => .int
  | 14 => .int
  | 15 => .int
  | 16 => .int
  | 17 => .int
  | 18 => .int
  | 19 => .long
  | 20 => .object "MlHouse$Routine"
  | 21 => .int
  | 22 => .long
  | 23 => .array .long
  | _ => .array .int
def tyX9 : Nat → FieldType := fun k => match k with
  | 0 => .object "java/lang/IllegalStateException"
  | _ => .int
def xk_cl : List vw_C := []
def xk_oin : List (Nat × Nat) := [(0, 125), (1, 1), (2, 1), (6, 3), (7, 1), (10, 3), (11, 1), (12, 3), (13, 3), (14, 3), (15, 3), (16, 1), (17, 3), (18, 1), (19, 1), (23, 1), (26, 1), (27, 3), (28, 1), (34, 1), (35, 3), (30, 1), (37, 1), (40, 1), (42, 1), (44, 1), (45, 1), (57, 1), (62, 3), (63, 1), (78, 3), (79, 1), (82, 1), (83, 1), (86, 1), (87, 1), (88, 3), (89, 3), (90, 1), (29, 1870)]
def xk_ty : Nat → Nat → FieldType := fun ci => match ci with
  | 0 => tyX0
  | 1 => tyX1
  | 2 => tyJ0
  | 3 => tyJ3
  | 4 => tyX2
  | 5 => tyJ6
  | 6 => tyX3
  | 7 => tyX4
  | 8 => tyX5
  | 9 => tyX6
  | 10 => tyX7
  | 11 => tyX8
  | 12 => tyX9
  | 13 => tyX10
  | 14 => tyX11
  | 15 => tyX12
  | 16 => tyX13
  | 17 => tyX14
  | 18 => tyX15
  | 19 => tyX16
  | 20 => tyX17
  | 21 => tyJ12
  | 22 => tyX18
  | 23 => tyJ17
  | 24 => tyX21
  | 25 => tyX23
  | 26 => tyJ19
  | 27 => tyX24
  | 28 => tyX26
  | 29 => tyX27
  | 30 => tyX28
  | 31 => tyX29
  | 32 => tyX30
  | 33 => tyX31
  | 34 => tyX32
  | 35 => tyX33
  | 36 => tyX34
  | 37 => tyX35
  | 38 => tyX36
  | 39 => tyX38
  | 40 => tyX39
  | 41 => tyX40
  | 42 => tyX41
  | 43 => tyX42
  | 44 => tyX43
  | 45 => tyX44
  | 46 => tyX45
  | 47 => tyX46
  | 48 => tyX47
  | 49 => tyX48
  | 50 => tyX49
  | 51 => tyX50
  | 52 => tyX51
  | 53 => tyX52
  | 54 => tyX53
  | 55 => tyX54
  | 56 => tyX55
  | 57 => tyX56
  | 58 => tyX57
  | 59 => tyX58
  | 60 => tyX59
  | 61 => tyX60
  | 62 => tyX61
  | 63 => tyX62
  | 64 => tyX63
  | 65 => tyX64
  | 66 => tyX65
  | 67 => tyX66
  | 68 => tyX67
  | 69 => tyX68
  | 70 => tyX69
  | _ => tyX70
def xk_cn : List String := ["MlHouse", "MlHouse$Faults", "java/lang/Throwable", "java/lang/Exception", "java/lang/RuntimeException", "java/lang/IllegalStateException", "MlHouse$Types", "java/util/AbstractCollection", "java/util/AbstractList", "java/util/ArrayList", "MlHouse$Parser", "MlHouse$Strength", "MlHouse$Lexer", "MlHouse$Judge", "MlHouse$Cover", "MlHouse$Machine", "MlHouse$Ends", "MlHouse$Teller", "MlHouse$Base", "MlHouse$Data", "jdk/internal/util/ArraysSupport", "java/lang/Math", "java/util/Arrays", "MlHouse$TypeName", "java/util/Objects", "jdk/internal/util/Preconditions", "MlHouse$Scheme", "MlHouse$Binding", "MlHouse$Con", "MlHouseModel", "java/lang/String", "java/lang/StringLatin1", "java/lang/StringUTF16", "java/lang/Character", "MlHouse$Token", "java/lang/AbstractStringBuilder", "java/lang/StringBuilder", "MlHouse$Dec", "MlHouse$Values", "MlHouse$ValDec", "MlHouse$Pat", "MlHouse$RowPat", "java/lang/Number", "java/lang/Integer", "MlHouse$Mention", "MlHouse$Ty", "MlHouse$VariableTy", "MlHouse$RowTy", "MlHouse$NamedTy", "MlHouse$ArrowTy", "MlHouse$AsPat", "MlHouse$NamePat", "MlHouse$TypedPat", "MlHouse$ListPat", "MlHouse$AnyPat", "MlHouse$ConstantPat", "MlHouse$ConPat", "MlHouse$Exp", "MlHouse$Raise", "MlHouse$If", "MlHouse$While", "MlHouse$Case", "MlHouse$Rules", "MlHouse$Rule", "MlHouse$Fn", "MlHouse$Sequence", "MlHouse$RowExp", "MlHouse$ListExp", "MlHouse$Let", "MlHouse$Select", "MlHouse$Use", "MlHouse$Constant", "MlHouse$Apply", "MlHouse$Infix", "MlHouse$Typed", "MlHouse$Both", "MlHouse$Handle", "MlHouse$FunDec", "MlHouse$Fun", "MlHouse$Clause", "MlHouse$TypeDec", "MlHouse$DataDec", "MlHouse$DataOne", "MlHouse$ConDec", "MlHouse$ExceptionDec", "MlHouse$LocalDec", "MlHouse$Variable", "MlHouse$Line", "MlHouse$Match", "MlHouse$Maker", "MlHouse$Routine", "java/lang/Object", "MlHouseLaw the law's entry", "no class first", "MlHouseLaw", "java/lang/System", "java/lang/Enum", "MlHouse$Kind", "java/lang/Integer$IntegerCache", "[B", "[Ljava/lang/Object;", "[Ljava/lang/String;", "[I", "[J", "[Z", "[LMlHouse$Binding;", "[LMlHouse$Routine;", "[C", "[LMlHouse$Base;", "[LMlHouse$Maker;"]
def xk_nm (cn : Nat) : String := xk_cn.getD cn ""
def xk_fls (cn : Nat) : List (Nat × Nat × List Nat) := match cn with
  | 0 => [(513, 1, [1]), (516, 2, [1]), (250, 0, [4]), (617, 11, [4]), (620, 12, [4]), (479, 1, [8]), (484, 3, [8]), (475, 1, [6]), (495, 2, [6]), (81, 0, [9]), (597, 2, [9]), (598, 3, [9]), (596, 9, [9]), (530, 10, [9]), (551, 11, [9]), (571, 30, [10]), (559, 31, [10]), (603, 9, [11]), (486, 16, [11]), (489, 18, [11]), (624, 22, [11]), (613, 2, [13]), (612, 3, [13]), (240, 0, [14]), (244, 1, [14]), (247, 2, [14]), (296, 2, [15]), (339, 4, [15]), (539, 1, [18]), (546, 2, [18]), (542, 3, [18]), (310, 5, [18]), (292, 6, [18]), (307, 9, [18]), (468, 11, [18]), (303, 3, [19]), (131, 0, [0]), (136, 1, [0]), (142, 2, [0]), (149, 3, [0]), (158, 4, [0]), (167, 5, [0]), (176, 6, [0]), (183, 7, [0]), (187, 8, [0]), (191, 9, [0]), (195, 10, [0]), (198, 11, [0]), (201, 12, [0]), (204, 13, [0]), (207, 14, [0]), (254, 15, [0]), (257, 16, [0]), (260, 17, [0]), (211, 18, [0]), (579, 19, [0]), (215, 20, [0]), (219, 21, [0]), (222, 22, [0]), (472, 23, [0]), (263, 24, [0]), (225, 25, [0]), (266, 26, [0]), (228, 27, [0]), (231, 28, [0]), (234, 29, [0]), (269, 30, [0]), (47, 0, [22]), (577, 0, [25, 32, 33, 34, 35, 36, 37, 38]), (67, 0, [27]), (71, 1, [27]), (104, 1, [67]), (535, 0, [68]), (564, 0, [69]), (562, 1, [69]), (568, 2, [69])]
  | 1 => [(14, 0, [1]), (20, 1, [1]), (24, 2, [1])]
  | 2 => [(198, 4, [2]), (198, 4, [2]), (31, 3, [2]), (7, 0, [2]), (17, 1, [2]), (24, 2, [2])]
  | 6 => [(12, 0, [4]), (19, 1, [4]), (23, 2, [4]), (26, 3, [4]), (29, 4, [4]), (32, 5, [4]), (36, 6, [4]), (41, 7, [4]), (45, 8, [4]), (49, 9, [4]), (52, 10, [4]), (74, 11, [4]), (78, 12, [4]), (87, 13, [4]), (81, 14, [4]), (84, 15, [4]), (152, 16, [4]), (138, 17, [4]), (55, 18, [4]), (90, 19, [4]), (59, 20, [4]), (62, 21, [4]), (65, 22, [4]), (233, 23, [4]), (236, 24, [4]), (68, 25, [4]), (266, 26, [4]), (269, 27, [4]), (71, 28, [4]), (292, 1, [15]), (289, 2, [15]), (208, 4, [15]), (295, 5, [15]), (278, 0, [17]), (282, 1, [17]), (272, 2, [17]), (283, 1, [19]), (297, 3, [19])]
  | 8 => [(7, 0, [5])]
  | 9 => [(9, 1, [5]), (48, 2, [5]), (63, 0, [5])]
  | 10 => [(114, 0, [7]), (124, 1, [7]), (496, 2, [7]), (38, 0, [6]), (47, 1, [6]), (12, 2, [6]), (18, 3, [6]), (51, 4, [6]), (67, 5, [6]), (96, 6, [6]), (134, 7, [6]), (28, 8, [6]), (34, 9, [6]), (70, 0, [22]), (55, 1, [22]), (118, 2, [22]), (385, 3, [22]), (162, 4, [24]), (155, 5, [24]), (237, 6, [24]), (443, 0, [24, 58]), (226, 1, [24, 58]), (302, 0, [25, 32, 33, 34, 35, 36, 37, 38]), (499, 0, [33]), (448, 0, [27]), (449, 1, [27]), (469, 1, [33]), (470, 2, [33]), (682, 0, [39, 40, 41, 42, 45, 46, 47, 48, 49, 50, 51, 52, 53, 54, 55, 56, 57]), (604, 0, [43]), (266, 4, [58]), (257, 1, [59]), (362, 0, [62]), (353, 3, [63])]
  | 11 => [(7, 0, [7]), (13, 1, [7]), (17, 2, [7])]
  | 12 => [(97, 0, [8]), (103, 1, [8]), (121, 2, [8]), (135, 3, [8]), (125, 4, [8]), (129, 5, [8]), (110, 6, [8]), (114, 7, [8]), (118, 8, [8])]
  | 13 => [(33, 0, [9]), (37, 1, [9]), (12, 2, [9]), (18, 3, [9]), (21, 4, [9]), (44, 5, [9]), (24, 6, [9]), (47, 7, [9]), (51, 8, [9]), (54, 9, [9]), (27, 10, [9]), (30, 11, [9]), (58, 0, [14]), (75, 1, [14]), (107, 0, [16]), (90, 0, [18]), (108, 1, [18]), (130, 3, [18]), (127, 4, [18]), (119, 5, [18]), (111, 6, [18]), (171, 10, [18]), (177, 0, [67])]
  | 14 => [(61, 0, [10]), (11, 1, [10]), (15, 2, [10]), (18, 3, [10]), (21, 4, [10]), (24, 5, [10]), (29, 6, [10]), (35, 7, [10]), (39, 8, [10]), (65, 9, [10]), (166, 10, [10]), (69, 11, [10]), (75, 12, [10]), (81, 13, [10]), (87, 14, [10]), (78, 15, [10]), (84, 16, [10]), (90, 17, [10]), (93, 18, [10]), (97, 19, [10]), (100, 20, [10]), (104, 21, [10]), (42, 22, [10]), (45, 23, [10]), (48, 24, [10]), (51, 25, [10]), (54, 26, [10]), (57, 27, [10]), (190, 28, [10]), (150, 29, [10]), (159, 30, [10]), (162, 31, [10]), (127, 3, [15]), (111, 1, [18]), (114, 6, [18]), (139, 8, [18]), (123, 1, [19]), (118, 2, [19]), (154, 2, [69])]
  | 15 => [(165, 1, [12]), (51, 0, [11]), (12, 1, [11]), (19, 2, [11]), (23, 3, [11]), (28, 4, [11]), (32, 5, [11]), (36, 6, [11]), (39, 7, [11]), (42, 8, [11]), (100, 9, [11]), (109, 10, [11]), (124, 11, [11]), (178, 12, [11]), (181, 13, [11]), (150, 14, [11]), (153, 15, [11]), (144, 16, [11]), (141, 17, [11]), (147, 18, [11]), (137, 19, [11]), (168, 20, [11]), (172, 21, [11]), (229, 22, [11]), (45, 23, [11]), (48, 24, [11]), (67, 9, [0]), (191, 10, [0]), (297, 11, [0]), (270, 14, [0]), (242, 0, [71]), (175, 1, [71]), (184, 2, [71]), (280, 3, [71])]
  | 16 => [(14, 0, [12]), (20, 1, [12])]
  | 17 => [(155, 0, [4]), (270, 0, [11]), (19, 0, [13]), (23, 1, [13]), (9, 2, [13]), (27, 3, [13]), (15, 4, [13]), (64, 5, [13]), (61, 6, [13]), (163, 0, [15]), (236, 3, [15]), (324, 1, [18]), (340, 3, [18]), (331, 7, [18]), (247, 0, [19]), (248, 3, [19]), (274, 12, [0]), (277, 13, [0]), (314, 0, [68]), (290, 1, [68]), (304, 2, [68]), (298, 3, [68]), (321, 4, [68])]
  | 18 => [(32, 0, [7]), (10, 0, [14]), (16, 1, [14]), (19, 2, [14])]
  | 19 => [(20, 0, [15]), (24, 1, [15]), (28, 2, [15]), (10, 3, [15]), (16, 4, [15])]
  | 23 => [(7, 0, [16]), (13, 1, [16]), (17, 2, [16]), (21, 3, [16])]
  | 26 => [(7, 0, [17]), (13, 1, [17]), (17, 2, [17])]
  | 27 => [(22, 0, [18]), (26, 1, [18]), (29, 2, [18]), (9, 3, [18]), (32, 6, [18]), (42, 7, [18]), (15, 8, [18]), (19, 11, [18])]
  | 28 => [(17, 3, [15]), (7, 0, [19]), (13, 1, [19]), (29, 2, [19]), (37, 3, [19])]
  | 29 => [(1, 0, [20]), (10, 1, [20]), (14, 2, [20]), (92, 3, [20]), (7, 4, [20]), (17, 5, [20]), (89, 6, [20]), (26, 7, [20]), (29, 8, [20]), (23, 9, [20]), (32, 10, [20]), (20, 11, [20]), (38, 12, [20]), (35, 13, [20]), (47, 14, [20]), (66, 15, [20]), (71, 16, [20]), (187, 17, [20]), (190, 18, [20]), (193, 19, [20]), (196, 20, [20]), (199, 21, [20]), (122, 22, [20]), (119, 23, [20]), (157, 24, [20]), (174, 25, [20]), (168, 26, [20]), (86, 27, [20]), (125, 28, [20]), (183, 29, [20]), (171, 30, [20]), (74, 31, [20]), (77, 32, [20]), (204, 33, [20]), (210, 34, [20]), (216, 35, [20]), (219, 36, [20]), (222, 37, [20]), (225, 38, [20]), (228, 39, [20]), (207, 40, [20]), (213, 41, [20]), (231, 44, [20]), (237, 45, [20]), (234, 46, [20]), (240, 47, [20]), (259, 48, [20]), (315, 49, [20]), (333, 50, [20]), (321, 51, [20]), (324, 52, [20]), (318, 53, [20]), (312, 54, [20]), (406, 55, [20]), (475, 56, [20]), (481, 57, [20]), (490, 58, [20]), (484, 59, [20]), (487, 60, [20]), (579, 61, [20]), (604, 62, [20]), (499, 63, [20]), (502, 64, [20]), (505, 65, [20]), (478, 66, [20]), (496, 67, [20]), (570, 68, [20]), (1109, 69, [20]), (637, 70, [20]), (1133, 71, [20]), (1112, 72, [20]), (585, 73, [20]), (1106, 74, [20]), (522, 75, [20]), (528, 76, [20]), (541, 77, [20]), (512, 78, [20]), (515, 79, [20]), (573, 80, [20]), (576, 81, [20]), (622, 82, [20]), (616, 83, [20]), (631, 84, [20]), (625, 85, [20]), (610, 86, [20]), (646, 87, [20]), (664, 88, [20]), (667, 89, [20]), (670, 90, [20]), (673, 91, [20]), (676, 92, [20]), (649, 93, [20]), (661, 94, [20]), (643, 95, [20]), (655, 96, [20]), (687, 97, [20]), (690, 98, [20]), (693, 99, [20]), (658, 100, [20]), (684, 101, [20]), (652, 102, [20]), (1136, 103, [20]), (851, 104, [20]), (1127, 105, [20]), (1115, 106, [20]), (854, 107, [20]), (1139, 108, [20]), (679, 109, [20]), (696, 110, [20]), (712, 111, [20]), (699, 112, [20]), (715, 113, [20]), (1998, 114, [20]), (709, 115, [20]), (706, 116, [20]), (703, 117, [20]), (718, 118, [20]), (721, 119, [20]), (724, 120, [20]), (727, 121, [20]), (754, 122, [20]), (757, 123, [20]), (1036, 124, [20]), (745, 125, [20]), (751, 126, [20]), (748, 127, [20]), (763, 128, [20]), (760, 129, [20]), (787, 130, [20]), (793, 131, [20]), (799, 132, [20]), (805, 133, [20]), (784, 134, [20]), (781, 135, [20]), (857, 136, [20]), (887, 138, [20]), (893, 139, [20]), (974, 140, [20]), (896, 141, [20]), (899, 142, [20]), (902, 143, [20]), (905, 144, [20]), (914, 145, [20]), (917, 146, [20]), (911, 147, [20]), (890, 148, [20]), (929, 149, [20]), (908, 150, [20]), (983, 151, [20]), (989, 152, [20]), (986, 153, [20]), (1039, 154, [20]), (1995, 155, [20]), (1019, 156, [20]), (1022, 157, [20]), (1025, 158, [20]), (1016, 159, [20]), (1045, 160, [20]), (1069, 161, [20]), (1093, 162, [20]), (1087, 163, [20]), (1146, 164, [20]), (1152, 165, [20]), (1149, 166, [20]), (1161, 167, [20]), (1158, 168, [20]), (1155, 169, [20]), (1167, 170, [20]), (1164, 171, [20]), (1179, 172, [20]), (1182, 173, [20]), (1194, 174, [20]), (1197, 175, [20]), (1200, 176, [20]), (1249, 177, [20]), (1246, 178, [20]), (1265, 179, [20]), (1325, 180, [20]), (1289, 181, [20]), (1285, 182, [20]), (1309, 183, [20]), (1273, 184, [20]), (1276, 185, [20]), (1279, 186, [20]), (1282, 187, [20]), (1552, 188, [20]), (1570, 189, [20]), (1319, 190, [20]), (1564, 191, [20]), (1299, 192, [20]), (1302, 193, [20]), (1322, 194, [20]), (1316, 195, [20]), (1328, 196, [20]), (1348, 197, [20]), (1357, 198, [20]), (1360, 199, [20]), (1345, 200, [20]), (1351, 201, [20]), (1354, 202, [20]), (1388, 203, [20]), (1394, 204, [20]), (1391, 205, [20]), (1397, 206, [20]), (1400, 207, [20]), (1403, 208, [20]), (1499, 209, [20]), (1603, 210, [20]), (1614, 211, [20]), (1632, 212, [20]), (1646, 213, [20]), (1676, 214, [20]), (1679, 215, [20]), (1555, 216, [20]), (1558, 217, [20]), (1561, 218, [20]), (1567, 219, [20]), (1691, 220, [20]), (1694, 221, [20]), (1697, 222, [20]), (1700, 223, [20]), (1706, 224, [20]), (1800, 225, [20]), (1812, 226, [20]), (1703, 227, [20]), (1768, 228, [20]), (1765, 229, [20]), (1771, 230, [20]), (1806, 231, [20]), (1809, 232, [20]), (1803, 233, [20]), (1852, 234, [20]), (1849, 235, [20]), (1886, 236, [20]), (1889, 237, [20]), (1892, 238, [20]), (2043, 239, [20]), (1954, 240, [20]), (1957, 241, [20]), (1966, 242, [20]), (1960, 243, [20]), (1963, 244, [20]), (1969, 245, [20]), (1972, 246, [20]), (2007, 247, [20]), (2010, 248, [20]), (2001, 249, [20]), (1895, 250, [20]), (1898, 251, [20]), (1901, 252, [20])]
  | 30 => [(1048, 2, [23]), (9, 0, [21]), (15, 1, [21])]
  | 34 => [(7, 0, [22]), (13, 1, [22]), (17, 2, [22]), (21, 3, [22])]
  | 35 => [(15, 0, [23]), (22, 1, [23]), (79, 3, [23])]
  | 38 => [(27, 14, [4]), (21, 0, [9]), (36, 4, [9]), (133, 7, [9]), (136, 8, [9]), (139, 10, [9]), (144, 0, [18]), (98, 2, [18]), (92, 3, [18]), (126, 4, [18]), (12, 0, [24, 58]), (18, 1, [24, 58]), (43, 2, [24, 58]), (33, 3, [24, 58]), (52, 0, [27]), (60, 1, [27]), (107, 1, [67]), (118, 2, [67])]
  | 39 => [(46, 2, [9]), (65, 6, [9]), (114, 11, [9]), (14, 4, [24]), (20, 5, [24]), (27, 6, [24]), (107, 0, [25, 32, 33, 34, 35, 36, 37, 38]), (101, 5, [33]), (119, 1, [34]), (77, 0, [39, 40, 41, 42, 45, 46, 47, 48, 49, 50, 51, 52, 53, 54, 55, 56, 57])]
  | 40 => [(7, 0, [25, 32, 33, 34, 35, 36, 37, 38])]
  | 41 => [(58, 0, [9]), (97, 0, [10]), (15, 1, [25]), (19, 2, [25]), (22, 3, [25]), (25, 4, [25]), (9, 5, [25]), (68, 6, [25]), (74, 1, [70])]
  | 43 => [(205, 0, [26])]
  | 44 => [(7, 0, [27]), (13, 1, [27])]
  | 45 => [(7, 0, [28, 29, 30, 31])]
  | 46 => [(48, 1, [9]), (15, 5, [9]), (9, 1, [28]), (52, 0, [28]), (41, 0, [67]), (25, 1, [67])]
  | 47 => [(50, 0, [9]), (9, 1, [29]), (15, 2, [29]), (18, 3, [29])]
  | 48 => [(56, 0, [9]), (70, 1, [15]), (43, 1, [16]), (52, 2, [16]), (60, 3, [16]), (33, 0, [30]), (9, 1, [30]), (15, 2, [30])]
  | 49 => [(27, 0, [9]), (7, 1, [31])]
  | 50 => [(51, 3, [18]), (67, 0, [25, 32, 33, 34, 35, 36, 37, 38]), (9, 1, [32]), (15, 2, [32]), (19, 3, [32]), (23, 4, [32]), (47, 5, [32])]
  | 51 => [(43, 3, [18]), (9, 1, [33]), (15, 2, [33]), (19, 3, [33]), (53, 4, [33]), (39, 5, [33])]
  | 52 => [(1, 0, [25, 32, 33, 34, 35, 36, 37, 38]), (11, 1, [34]), (17, 2, [34])]
  | 53 => [(39, 0, [9]), (29, 0, [25, 32, 33, 34, 35, 36, 37, 38]), (9, 1, [35])]
  | 54 => [(7, 0, [9])]
  | 55 => [(19, 0, [9]), (37, 0, [22]), (1, 1, [22]), (48, 2, [22]), (56, 3, [22]), (13, 1, [37])]
  | 56 => [(58, 0, [9]), (68, 0, [25, 32, 33, 34, 35, 36, 37, 38]), (9, 1, [38]), (15, 2, [38]), (19, 3, [38]), (23, 4, [38]), (33, 5, [38])]
  | 57 => [(7, 0, [39, 40, 41, 42, 45, 46, 47, 48, 49, 50, 51, 52, 53, 54, 55, 56, 57])]
  | 58 => [(19, 0, [9]), (9, 1, [39]), (31, 0, [39, 40, 41, 42, 45, 46, 47, 48, 49, 50, 51, 52, 53, 54, 55, 56, 57])]
  | 59 => [(39, 0, [9]), (29, 0, [39, 40, 41, 42, 45, 46, 47, 48, 49, 50, 51, 52, 53, 54, 55, 56, 57]), (9, 1, [40]), (15, 2, [40]), (18, 3, [40])]
  | 60 => [(26, 0, [9]), (7, 1, [41]), (13, 2, [41])]
  | 61 => [(9, 1, [42]), (15, 2, [42]), (19, 3, [42])]
  | 62 => [(70, 2, [9]), (50, 6, [9]), (32, 7, [9]), (23, 11, [9]), (63, 0, [25, 32, 33, 34, 35, 36, 37, 38]), (82, 0, [39, 40, 41, 42, 45, 46, 47, 48, 49, 50, 51, 52, 53, 54, 55, 56, 57]), (12, 0, [43]), (36, 1, [43]), (53, 0, [44]), (75, 1, [44])]
  | 63 => [(7, 0, [44]), (13, 1, [44])]
  | 64 => [(27, 0, [9]), (33, 1, [43]), (9, 1, [45]), (15, 2, [45]), (44, 0, [70])]
  | 65 => [(9, 1, [46])]
  | 66 => [(50, 0, [9]), (9, 1, [47]), (15, 2, [47]), (18, 3, [47])]
  | 67 => [(39, 0, [9]), (29, 0, [39, 40, 41, 42, 45, 46, 47, 48, 49, 50, 51, 52, 53, 54, 55, 56, 57]), (9, 1, [48])]
  | 68 => [(23, 2, [9]), (32, 3, [9]), (17, 7, [9]), (7, 1, [49]), (13, 2, [49])]
  | 69 => [(17, 0, [9]), (7, 1, [50]), (13, 2, [50]), (33, 3, [50]), (45, 1, [70])]
  | 70 => [(7, 1, [51]), (13, 2, [51]), (23, 3, [51])]
  | 71 => [(19, 0, [9]), (37, 0, [22]), (1, 1, [22]), (48, 2, [22]), (60, 3, [22]), (13, 1, [52])]
  | 72 => [(39, 0, [9]), (1, 0, [39, 40, 41, 42, 45, 46, 47, 48, 49, 50, 51, 52, 53, 54, 55, 56, 57]), (11, 1, [53]), (17, 2, [53])]
  | 73 => [(36, 0, [9]), (65, 1, [18]), (76, 9, [18]), (3, 0, [39, 40, 41, 42, 45, 46, 47, 48, 49, 50, 51, 52, 53, 54, 55, 56, 57]), (33, 2, [51]), (61, 3, [51]), (13, 1, [54]), (19, 2, [54]), (23, 3, [54])]
  | 74 => [(1, 0, [39, 40, 41, 42, 45, 46, 47, 48, 49, 50, 51, 52, 53, 54, 55, 56, 57]), (11, 1, [55]), (17, 2, [55])]
  | 75 => [(32, 0, [9]), (3, 0, [39, 40, 41, 42, 45, 46, 47, 48, 49, 50, 51, 52, 53, 54, 55, 56, 57]), (13, 1, [56]), (19, 2, [56]), (23, 3, [56])]
  | 76 => [(30, 0, [9]), (3, 0, [39, 40, 41, 42, 45, 46, 47, 48, 49, 50, 51, 52, 53, 54, 55, 56, 57]), (13, 1, [57]), (19, 2, [57]), (23, 3, [57])]
  | 77 => [(57, 2, [9]), (30, 6, [9]), (10, 4, [58]), (53, 2, [59]), (39, 0, [60]), (45, 1, [60])]
  | 78 => [(116, 0, [9]), (96, 2, [9]), (73, 6, [9]), (53, 7, [9]), (44, 11, [9]), (133, 2, [18]), (130, 3, [18]), (82, 0, [25, 32, 33, 34, 35, 36, 37, 38]), (108, 0, [39, 40, 41, 42, 45, 46, 47, 48, 49, 50, 51, 52, 53, 54, 55, 56, 57]), (18, 0, [59]), (12, 1, [59]), (126, 2, [59]), (57, 0, [60]), (66, 1, [60]), (32, 2, [60]), (87, 3, [60]), (101, 4, [60]), (138, 0, [70])]
  | 79 => [(7, 0, [60]), (13, 1, [60]), (17, 2, [60]), (21, 3, [60]), (25, 4, [60])]
  | 80 => [(45, 0, [9]), (73, 3, [9]), (37, 5, [9]), (85, 7, [9]), (89, 8, [9]), (92, 10, [9]), (9, 0, [61]), (15, 1, [61]), (19, 2, [61]), (23, 3, [61])]
  | 81 => [(58, 0, [4]), (54, 0, [9]), (92, 2, [9]), (76, 3, [9]), (157, 5, [9]), (97, 7, [9]), (101, 8, [9]), (104, 10, [9]), (181, 3, [15]), (182, 4, [15]), (120, 5, [15]), (188, 0, [17]), (142, 0, [18]), (149, 6, [18]), (177, 3, [19]), (12, 0, [62]), (63, 0, [63]), (28, 1, [63]), (38, 2, [63]), (131, 3, [63]), (69, 4, [63]), (136, 0, [64]), (137, 1, [64]), (153, 2, [64]), (124, 1, [67])]
  | 82 => [(16, 0, [63]), (19, 1, [63]), (23, 2, [63]), (10, 3, [63])]
  | 83 => [(7, 0, [64]), (13, 1, [64]), (17, 2, [64])]
  | 84 => [(77, 0, [9]), (113, 2, [9]), (90, 5, [9]), (62, 7, [9]), (120, 8, [9]), (123, 10, [9]), (35, 1, [18]), (73, 5, [18]), (70, 7, [18]), (67, 8, [18]), (66, 10, [18]), (9, 0, [65]), (15, 1, [65]), (19, 2, [65]), (23, 3, [65]), (26, 4, [65]), (59, 5, [65]), (44, 6, [65]), (107, 7, [65]), (137, 0, [70])]
  | 85 => [(22, 2, [9]), (31, 3, [9]), (16, 8, [9]), (7, 0, [66]), (13, 1, [66])]
  | 86 => [(7, 0, [67]), (13, 1, [67]), (17, 2, [67])]
  | 87 => [(7, 0, [68]), (13, 1, [68]), (17, 2, [68]), (21, 3, [68]), (25, 4, [68])]
  | 88 => [(22, 0, [69]), (26, 1, [69]), (12, 2, [69]), (18, 3, [69])]
  | 89 => [(107, 1, [15]), (85, 1, [18]), (93, 6, [18]), (90, 9, [18]), (119, 10, [18]), (113, 11, [18]), (116, 12, [18]), (103, 1, [19]), (112, 2, [19]), (30, 1, [0]), (47, 18, [0]), (38, 19, [0]), (18, 0, [70]), (34, 1, [70]), (22, 2, [70]), (26, 3, [70]), (12, 4, [70]), (41, 5, [70]), (44, 6, [70]), (35, 7, [70])]
  | 90 => [(13, 18, [0]), (7, 0, [70]), (37, 3, [70]), (45, 4, [70]), (28, 5, [70]), (19, 6, [70]), (41, 7, [70]), (23, 0, [71]), (40, 1, [71]), (44, 2, [71]), (54, 3, [71])]
  | _ => []
def xk_kf (cn idx ci : Nat) : Option Nat := match (xk_fls cn).find? (fun e => e.1 == idx) with
  | some e => if e.2.2.contains ci then some e.2.1 else none
  | none => none
def xk_tys (dA : Nat → ClassId) : List (ClassId × FieldType) := [(dA 0, .int), (dA 1, .long), (dA 2, .byte), (dA 3, .boolean), (dA 4, .char), (dA 5, .object "java/lang/Object"), (dA 6, .object "java/lang/String"), (dA 7, .object "MlHouse$Binding"), (dA 8, .object "MlHouse$Routine"), (dA 9, .object "MlHouse$Base"), (dA 10, .object "MlHouse$Maker"), (dA 11, .object "java/lang/Object")]
def xk_prim (t : ArrayType) : Option Nat := match newarray.typeOf t with
  | .int => some 0
  | .long => some 1
  | .byte => some 2
  | .boolean => some 3
  | .char => some 4
  | _ => none
def xk_aos : List String := ["java/lang/String", "MlHouse$Binding", "MlHouse$Routine", "MlHouse$Base", "java/lang/Object", "MlHouse$Maker"]
def xk_news (cn : Nat) : List (Nat × Nat) := match cn with
  | 0 => [(128, 1), (24, 4), (137, 6), (76, 9), (153, 10), (162, 11), (171, 13), (180, 14), (10, 5), (276, 15), (279, 16), (284, 18), (287, 19), (4, 21), (320, 7), (65, 27), (96, 67), (533, 68), (554, 69), (582, 70), (457, 71)]
  | 6 => [(9, 5), (39, 21), (258, 17), (206, 15)]
  | 10 => [(9, 5), (21, 7), (32, 21), (42, 8), (149, 24), (300, 25), (229, 27), (446, 28), (404, 29), (421, 30), (392, 31), (467, 32), (165, 33), (474, 34), (529, 35), (519, 36), (522, 37), (489, 38), (56, 22), (568, 39), (577, 40), (584, 41), (589, 42), (599, 43), (605, 44), (594, 45), (683, 46), (686, 47), (689, 48), (692, 49), (676, 50), (643, 51), (679, 52), (660, 53), (641, 54), (628, 55), (615, 56), (559, 57), (249, 58), (252, 59), (294, 60), (337, 61), (345, 62), (348, 63), (356, 64), (363, 65), (375, 66)]
  | 12 => [(9, 21), (107, 5), (161, 22), (237, 23)]
  | 13 => [(9, 5), (69, 18), (76, 16), (175, 67)]
  | 14 => [(27, 21), (33, 18), (134, 5)]
  | 15 => [(9, 12), (26, 71), (367, 23), (77, 21)]
  | 17 => [(36, 21), (280, 17), (161, 15), (242, 19)]
  | 18 => [(7, 5), (30, 7), (52, 18), (54, 16)]
  | 19 => [(7, 5)]
  | 30 => [(10, 21)]
  | 36 => [(18, 21)]
  | 38 => [(9, 5), (50, 27), (75, 67), (90, 18), (142, 68)]
  | 39 => [(9, 5), (99, 33), (117, 34), (55, 18), (131, 45), (97, 36), (105, 69), (133, 70)]
  | 41 => [(43, 26), (83, 21), (81, 36)]
  | 43 => [(1, 26)]
  | 46 => [(26, 67)]
  | 47 => [(35, 26)]
  | 53 => [(77, 36)]
  | 62 => [(9, 5), (18, 69), (48, 44), (73, 18)]
  | 64 => [(42, 70)]
  | 66 => [(35, 26)]
  | 72 => [(68, 51)]
  | 77 => [(7, 5), (28, 59), (60, 18), (77, 70)]
  | 78 => [(9, 5), (26, 60), (39, 69), (99, 18), (136, 70)]
  | 80 => [(76, 16), (95, 68)]
  | 81 => [(9, 5), (26, 63), (52, 15), (79, 16), (122, 67), (134, 64), (95, 18), (144, 19), (107, 68)]
  | 82 => [(7, 5)]
  | 84 => [(36, 18), (87, 5), (126, 68)]
  | 88 => [(9, 5)]
  | 89 => [(9, 5), (86, 18), (65, 26)]
  | 94 => [(7, 0), (10, 20)]
  | _ => []
def xk_arrs (cn : Nat) : List (Nat × Nat) := match cn with
  | 0 => [(180, 9), (284, 7), (4, 6), (582, 10), (457, 8)]
  | 6 => [(39, 6)]
  | 9 => [(7, 5)]
  | 10 => [(32, 6)]
  | 12 => [(9, 6)]
  | 13 => [(69, 7)]
  | 14 => [(27, 6), (33, 7)]
  | 15 => [(26, 8), (77, 6)]
  | 17 => [(36, 6)]
  | 18 => [(52, 7)]
  | 22 => [(2, 5)]
  | 30 => [(10, 6)]
  | 36 => [(18, 6)]
  | 38 => [(90, 7)]
  | 39 => [(55, 7), (133, 10)]
  | 41 => [(83, 6)]
  | 62 => [(73, 7)]
  | 64 => [(42, 10)]
  | 77 => [(60, 7), (77, 10)]
  | 78 => [(99, 7), (136, 10)]
  | 81 => [(95, 7)]
  | 84 => [(36, 7)]
  | 89 => [(86, 7)]
  | _ => []
def xk_kn (cn idx : Nat) : Option Nat := ((xk_news cn).find? (fun e => e.1 == idx)).map (fun e => e.2)
def xk_ka (cn idx : Nat) : Option Nat := ((xk_arrs cn).find? (fun e => e.1 == idx)).map (fun e => e.2)
def xk_look (b : Nat) (ol : List (Nat × xj_E)) (h : List xj_E) (a : Nat) : Option xj_E := if b ≤ a then h[a - b]? else (ol.find? (fun q => q.1 == a)).map (fun q => q.2)
def xk_wr (k : xj_M) (ci f : Nat) : Bool := match xk_cl[ci]? with
  | some r => !(r.2.1 f).2.2.2 || (decide (k.1.name = "<init>") && decide ((r.2.1 f).1 = k.1.cls))
  | none => false
abbrev xk_S : Type := List Value × List xj_E × Nat × Nat × Nat
def xk_idx (i : Int32) (n : Nat) : Bool := decide (0 ≤ i.toInt ∧ i.toInt < n)
def xk_ald (i : Instr) (t : Nat) (x : vp_A) (j : Int32) : Option Value := if xk_idx j x.1 = true then (match i, t, x.2 with
  | .iaload, 0, .inl f => some (.int (f j.toNatClampNeg))
  | .laload, 1, .inr (.inl f) => some (.long (f j.toNatClampNeg))
  | .baload, 2, .inl f => some (.int (f j.toNatClampNeg))
  | .baload, 3, .inl f => some (.int (f j.toNatClampNeg))
  | .caload, 4, .inl f => some (.int (f j.toNatClampNeg))
  | .aaload, 5, .inr (.inr (.inr (.inr f))) => some (va_rf (f j.toNatClampNeg))
  | .aaload, 6, .inr (.inr (.inr (.inr f))) => some (va_rf (f j.toNatClampNeg))
  | .aaload, 7, .inr (.inr (.inr (.inr f))) => some (va_rf (f j.toNatClampNeg))
  | .aaload, 8, .inr (.inr (.inr (.inr f))) => some (va_rf (f j.toNatClampNeg))
  | .aaload, 9, .inr (.inr (.inr (.inr f))) => some (va_rf (f j.toNatClampNeg))
  | .aaload, 10, .inr (.inr (.inr (.inr f))) => some (va_rf (f j.toNatClampNeg))
  | .aaload, 11, .inr (.inr (.inr (.inr f))) => some (va_rf (f j.toNatClampNeg))
  | _, _, _ => none) else none
def xk_ast (i : Instr) (t : Nat) (x : vp_A) (j : Int32) (v : Value) : Option vp_A := if xk_idx j x.1 = true then (match i, t, x.2, v with
  | .iastore, 0, .inl f, .int y => some (x.1, .inl (upd f j.toNatClampNeg y))
  | .lastore, 1, .inr (.inl f), .long y => some (x.1, .inr (.inl (vp_updL f j.toNatClampNeg y)))
  | .bastore, 2, .inl f, .int y => some (x.1, .inl (upd f j.toNatClampNeg (vp_nar .byte y)))
  | .bastore, 3, .inl f, .int y => some (x.1, .inl (upd f j.toNatClampNeg (vp_nar .boolean y)))
  | .castore, 4, .inl f, .int y => some (x.1, .inl (upd f j.toNatClampNeg (vp_nar .char y)))
  | _, _, _, _ => none) else none
def xk_get (b : Nat) (ol : List (Nat × xj_E)) (k : xj_M) (idx : Nat) (st : List Value) (h : List xj_E) : Option xk_S := match st with
  | .ref a :: r => match xk_look b ol h a with
    | some (.inr (ci, fs)) => match xk_kf k.2.2.2.2.2 idx ci with
      | some f => match fs[f]? with
        | some v => some (v :: r, h, 0, 0, 3)
        | none => none
      | none => none
    | _ => none
  | _ => none
def xk_mk (b : Nat) (k : xj_M) (idx : Nat) (st : List Value) (h : List xj_E) : Option xk_S := match xk_kn k.2.2.2.2.2 idx with
  | some ci => match xk_cl[ci]? with
    | some r => some (.ref (b + h.length) :: st, h ++ [.inr (ci, (List.range r.2.2).map (fun f => defaultValue (xk_ty ci f)))], 1, r.2.2, 3)
    | none => none
  | none => none
def xk_len (b : Nat) (ol : List (Nat × xj_E)) (st : List Value) (h : List xj_E) : Option xk_S := match st with
  | .ref a :: r => match xk_look b ol h a with
    | some (.inl (t, x)) => if t < 12 then some (.int (Int32.ofNat x.1) :: r, h, 0, 0, 1) else none
    | _ => none
  | _ => none
def xk_ld (b : Nat) (ol : List (Nat × xj_E)) (i : Instr) (st : List Value) (h : List xj_E) : Option xk_S := match st with
  | .int j :: .ref a :: r => match xk_look b ol h a with
    | some (.inl (t, x)) => match xk_ald i t x j with
      | some v => some (v :: r, h, 0, 0, 1)
      | none => none
    | _ => none
  | _ => none
def xk_sto (b : Nat) (i : Instr) (st : List Value) (h : List xj_E) : Option xk_S := match st with
  | v :: .int j :: .ref a :: r => if b ≤ a then (match h[a - b]? with
    | some (.inl (t, x)) => match xk_ast i t x j v with
      | some y => some (r, h.set (a - b) (.inl (t, y)), 0, 0, 1)
      | none => none
    | _ => none) else none
  | _ => none
def xk_na (b : Nat) (at0 : ArrayType) (st : List Value) (h : List xj_E) : Option xk_S := match st with
  | .int n :: r => if n < 0 ∨ 16777216 < n.toNatClampNeg then none else (match at0 with
    | .int => some (.ref (b + h.length) :: r, h ++ [.inl (0, n.toNatClampNeg, .inl (fun _ => 0))], 1, n.toNatClampNeg, 2)
    | .long => some (.ref (b + h.length) :: r, h ++ [.inl (1, n.toNatClampNeg, .inr (.inl (fun _ => 0)))], 1, n.toNatClampNeg, 2)
    | .byte => some (.ref (b + h.length) :: r, h ++ [.inl (2, n.toNatClampNeg, .inl (fun _ => 0))], 1, n.toNatClampNeg, 2)
    | .boolean => some (.ref (b + h.length) :: r, h ++ [.inl (3, n.toNatClampNeg, .inl (fun _ => 0))], 1, n.toNatClampNeg, 2)
    | .char => some (.ref (b + h.length) :: r, h ++ [.inl (4, n.toNatClampNeg, .inl (fun _ => 0))], 1, n.toNatClampNeg, 2)
    | _ => none)
  | _ => none
def xk_nq (b : Nat) (k : xj_M) (idx : Nat) (st : List Value) (h : List xj_E) : Option xk_S := match st with
  | .int n :: r => if n < 0 ∨ 16777216 < n.toNatClampNeg then none else (match xk_ka k.2.2.2.2.2 idx with
    | some t => some (.ref (b + h.length) :: r, h ++ [.inl (t, n.toNatClampNeg, .inr (.inr (.inr (.inr (fun _ => none)))))], 1, n.toNatClampNeg, 3)
    | none => none)
  | _ => none
def xk_put (b : Nat) (k : xj_M) (idx : Nat) (st : List Value) (h : List xj_E) : Option xk_S := match st with
  | v :: .ref a :: r => if b ≤ a then (match h[a - b]? with
    | some (.inr (ci, fs)) => match xk_kf k.2.2.2.2.2 idx ci with
      | some f => match xk_cl[ci]? with
        | some q => if narrow (xk_ty ci f) v = v ∧ fits (xk_ty ci f) v = true ∧ f < fs.length ∧ ((q.2.1 f).2.2.2 = false ∨ (k.1.name = "<init>" ∧ (q.2.1 f).1 = k.1.cls ∧ (q.2.1 f).2.2.2 = true)) then some (r, h.set (a - b) (.inr (ci, fs.set f v)), 0, 0, 3) else none
        | none => none
      | none => none
    | _ => none) else none
  | _ => none
def xk_cons (cn : Nat) : List (Nat × Value) := match cn with
  | 0 => [(119, .long (9)), (121, .long (10)), (123, .long (48)), (471, .int (1000000000))]
  | 6 => [(18, .int (60000)), (35, .int (150000)), (217, .int (1048576))]
  | 12 => [(274, .long (10)), (276, .long (48)), (278, .long (1099511627776)), (286, .long (2147483648)), (288, .long (2147483647))]
  | 15 => [(18, .int (120001)), (135, .long (7)), (55, .long (4294967295)), (266, .long (68719476735)), (268, .long (1152921504606846976)), (104, .int (120000)), (65, .long (1099511627776)), (308, .long (-2147483648)), (310, .long (2147483647)), (379, .long (9)), (381, .long (10)), (383, .long (48)), (385, .long (126)), (120, .long (72057594037927935)), (122, .long (5)), (221, .long (255)), (223, .long (4)), (98, .long (1048575))]
  | 17 => [(55, .long (9)), (57, .long (10)), (59, .long (48))]
  | 20 => [(200, .int (2147483639))]
  | 29 => [(1873, .int (44000)), (1874, .int (184000)), (1875, .int (84000)), (1876, .int (57000)), (1877, .int (106000)), (1878, .int (158000)), (1879, .int (42000)), (1880, .int (380000)), (1881, .int (240000)), (1882, .int (121000)), (1883, .int (402000)), (1884, .int (215000)), (1885, .int (41000)), (683, .int (65535)), (1269, .long (2814749767106560)), (1271, .long (34359738367)), (160, .long (2147483648)), (162, .long (10)), (164, .long (48)), (166, .long (2147483647)), (682, .int (65536)), (875, .long (10000)), (1178, .int (16777216)), (1177, .int (33554432)), (1245, .int (67108864)), (1261, .long (4294967295)), (1292, .long (2)), (1502, .long (13)), (1297, .long (3)), (1504, .long (281474976710655)), (1506, .long (3096224743817216)), (1508, .long (9)), (1428, .long (12)), (1288, .int (120000)), (1343, .long (7)), (1382, .long (5)), (1550, .long (14)), (1384, .long (6)), (1386, .long (4)), (1612, .long (-2147483648)), (1644, .long (256)), (1855, .int (1000000000)), (1540, .long (8)), (1263, .long (8191))]
  | 32 => [(20, .int (1073741823)), (227, .int (65536))]
  | 33 => [(110, .int (55232)), (76, .int (56320))]
  | 35 => [(39, .int (2147483647))]
  | 88 => [(46, .long (10000))]
  | _ => []
def xk_strs : List (String × Nat × String) := [("MlHouse$Faults", 9, "a fault"),
  ("MlHouse$Parser", 23, "="),
  ("MlHouse$Lexer", 11, "("),
  ("MlHouse$Lexer", 13, ")"),
  ("MlHouse$Lexer", 15, "["),
  ("MlHouse$Lexer", 17, "]"),
  ("MlHouse$Lexer", 19, "{"),
  ("MlHouse$Lexer", 21, "}"),
  ("MlHouse$Lexer", 23, ","),
  ("MlHouse$Lexer", 25, ";"),
  ("MlHouse$Lexer", 27, "_"),
  ("MlHouse$Lexer", 29, ":"),
  ("MlHouse$Lexer", 31, "|"),
  ("MlHouse$Lexer", 33, "="),
  ("MlHouse$Lexer", 35, "=>"),
  ("MlHouse$Lexer", 37, "->"),
  ("MlHouse$Lexer", 39, "#"),
  ("MlHouse$Lexer", 41, "and"),
  ("MlHouse$Lexer", 43, "andalso"),
  ("MlHouse$Lexer", 45, "as"),
  ("MlHouse$Lexer", 47, "case"),
  ("MlHouse$Lexer", 49, "datatype"),
  ("MlHouse$Lexer", 51, "do"),
  ("MlHouse$Lexer", 53, "else"),
  ("MlHouse$Lexer", 55, "end"),
  ("MlHouse$Lexer", 57, "exception"),
  ("MlHouse$Lexer", 59, "fn"),
  ("MlHouse$Lexer", 61, "fun"),
  ("MlHouse$Lexer", 63, "handle"),
  ("MlHouse$Lexer", 65, "if"),
  ("MlHouse$Lexer", 67, "in"),
  ("MlHouse$Lexer", 69, "infix"),
  ("MlHouse$Lexer", 71, "infixr"),
  ("MlHouse$Lexer", 73, "let"),
  ("MlHouse$Lexer", 75, "local"),
  ("MlHouse$Lexer", 77, "nonfix"),
  ("MlHouse$Lexer", 79, "of"),
  ("MlHouse$Lexer", 81, "op"),
  ("MlHouse$Lexer", 83, "orelse"),
  ("MlHouse$Lexer", 85, "raise"),
  ("MlHouse$Lexer", 87, "rec"),
  ("MlHouse$Lexer", 89, "then"),
  ("MlHouse$Lexer", 91, "type"),
  ("MlHouse$Lexer", 93, "val"),
  ("MlHouse$Lexer", 95, "while"),
  ("MlHouse$Ends", 9, "an end"),
  ("MlHouse", 325, "int"),
  ("MlHouse", 331, "char"),
  ("MlHouse", 333, "string"),
  ("MlHouse", 335, "bool"),
  ("MlHouse", 337, "exn"),
  ("MlHouse", 343, "list"),
  ("MlHouse", 345, "ref"),
  ("MlHouse", 347, "unit"),
  ("MlHouse", 351, "false"),
  ("MlHouse", 356, "true"),
  ("MlHouse$Types", 97, ""),
  ("MlHouse", 360, "nil"),
  ("MlHouse", 362, "::"),
  ("MlHouse$Types", 103, "1"),
  ("MlHouse$Types", 105, "2"),
  ("MlHouse", 398, "Match"),
  ("MlHouse", 400, "Bind"),
  ("MlHouse", 402, "Overflow"),
  ("MlHouse", 404, "Div"),
  ("MlHouse", 406, "Chr"),
  ("MlHouse", 408, "Size"),
  ("MlHouse", 410, "Subscript"),
  ("MlHouse", 416, "="),
  ("MlHouse", 386, "<>"),
  ("MlHouse", 388, "<"),
  ("MlHouse", 390, ">"),
  ("MlHouse", 392, "<="),
  ("MlHouse", 394, ">="),
  ("MlHouse", 380, "+"),
  ("MlHouse", 382, "-"),
  ("MlHouse", 378, "*"),
  ("MlHouse", 371, "div"),
  ("MlHouse", 376, "mod"),
  ("MlHouse", 384, "^"),
  ("MlHouse", 396, ":="),
  ("MlHouse", 425, "~"),
  ("MlHouse", 429, "abs"),
  ("MlHouse", 430, "not"),
  ("MlHouse", 432, "size"),
  ("MlHouse", 433, "ord"),
  ("MlHouse", 435, "chr"),
  ("MlHouse", 437, "str"),
  ("MlHouse", 439, "1"),
  ("MlHouse", 441, "2"),
  ("MlHouse", 443, "3"),
  ("MlHouse", 445, "substring"),
  ("MlHouse", 447, "explode"),
  ("MlHouse", 449, "implode"),
  ("MlHouse", 451, "makestring"),
  ("MlHouse", 453, "!"),
  ("MlHouse", 455, "print"),
  ("MlHouse$Lexer", 169, ""),
  ("MlHouse$Lexer", 293, "~"),
  ("MlHouse$Lexer", 272, "..."),
  ("MlHouse$Lexer", 204, "()[]{},;_"),
  ("MlHouse", 1, "!%&$#+-/:<=>?@\\~`^|*"),
  ("MlHouse$Parser", 177, "val"),
  ("MlHouse$Parser", 179, "fun"),
  ("MlHouse$Parser", 181, "type"),
  ("MlHouse$Parser", 183, "datatype"),
  ("MlHouse$Parser", 185, "exception"),
  ("MlHouse$Parser", 187, "local"),
  ("MlHouse$Parser", 189, "infix"),
  ("MlHouse$Parser", 191, "infixr"),
  ("MlHouse$Parser", 193, "nonfix"),
  ("MlHouse$Parser", 235, "rec"),
  ("MlHouse$Parser", 269, "op"),
  ("MlHouse$Parser", 500, "_"),
  ("MlHouse$Parser", 436, "{"),
  ("MlHouse$Parser", 319, "("),
  ("MlHouse$Parser", 508, "["),
  ("MlHouse$Parser", 326, ")"),
  ("MlHouse$Parser", 324, ","),
  ("MlHouse$Parser", 451, "}"),
  ("MlHouse$Parser", 532, "..."),
  ("MlHouse$Parser", 383, "~"),
  ("MlHouse$Parser", 288, ":"),
  ("MlHouse$Parser", 400, "*"),
  ("MlHouse$Parser", 390, "->"),
  ("MlHouse$Parser", 465, "as"),
  ("MlHouse$Parser", 527, "]"),
  ("MlHouse$Parser", 538, "raise"),
  ("MlHouse$Parser", 540, "if"),
  ("MlHouse$Parser", 542, "while"),
  ("MlHouse$Parser", 544, "case"),
  ("MlHouse$Parser", 546, "fn"),
  ("MlHouse$Parser", 573, "then"),
  ("MlHouse$Parser", 575, "else"),
  ("MlHouse$Parser", 582, "do"),
  ("MlHouse$Parser", 358, "of"),
  ("MlHouse$Parser", 602, "=>"),
  ("MlHouse$Parser", 264, "|"),
  ("MlHouse$Parser", 651, "#"),
  ("MlHouse$Parser", 653, "let"),
  ("MlHouse$Parser", 172, ";"),
  ("MlHouse$Parser", 368, "in"),
  ("MlHouse$Parser", 370, "end"),
  ("MlHouse$Parser", 623, "andalso"),
  ("MlHouse$Parser", 613, "orelse"),
  ("MlHouse$Parser", 557, "handle"),
  ("MlHouse$Parser", 244, "and"),
  ("MlHouse$Parser", 167, "it"),
  ("MlHouse$Judge", 143, "true"),
  ("MlHouse$Judge", 145, "false"),
  ("MlHouse$Judge", 147, "nil"),
  ("MlHouse$Judge", 149, "::"),
  ("MlHouse$Judge", 151, "ref"),
  ("MlHouse$NamedTy", 79, ""),
  ("MlHouse$Use", 37, "ref"),
  ("MlHouse$Teller", 128, "("),
  ("MlHouse$Teller", 151, " "),
  ("MlHouse$Teller", 178, "#"),
  ("MlHouse$Teller", 180, "fn"),
  ("MlHouse$Teller", 141, "{"),
  ("MlHouse$Teller", 143, ","),
  ("MlHouse$Teller", 188, "="),
  ("MlHouse$Teller", 139, ")"),
  ("MlHouse$Teller", 147, "}"),
  ("MlHouse$Teller", 209, "#\""),
  ("MlHouse$Teller", 167, "\\n"),
  ("MlHouse$Teller", 169, "\\t"),
  ("MlHouse$Teller", 171, "\\\""),
  ("MlHouse$Teller", 173, "\\\\"),
  ("MlHouse$Teller", 214, "\""),
  ("MlHouse$Teller", 256, "["),
  ("MlHouse$Teller", 262, "]"),
  ("MlHouse$Teller", 230, "ref"),
  ("MlHouse$Teller", 296, "datatype "),
  ("MlHouse$Teller", 153, ") "),
  ("MlHouse$Teller", 305, " ="),
  ("MlHouse$Teller", 307, " | "),
  ("MlHouse$Teller", 309, " of "),
  ("MlHouse$Teller", 83, "''"),
  ("MlHouse$Teller", 85, "'"),
  ("MlHouse$Teller", 149, " -> "),
  ("MlHouse$Teller", 123, "unit"),
  ("MlHouse$Teller", 130, " * "),
  ("MlHouse$Teller", 145, ":"),
  ("MlHouse$Teller", 317, "type "),
  ("MlHouse$Teller", 319, " = "),
  ("MlHouse$Teller", 329, "exception "),
  ("MlHouse$Teller", 334, "val "),
  ("MlHouse$Teller", 342, " : "),
  ("MlHouseModel", 58, "and andalso as case datatype do else end exception fn fun handle if in infix infixr let local nonfix of op orelse raise rec then type val while ( ) [ ] { } , ; ... _ : | = => -> # "),
  ("MlHouseModel", 60, "*"),
  ("MlHouseModel", 69, "::"),
  ("MlHouseModel", 1907, "int"),
  ("MlHouseModel", 1856, "exn"),
  ("MlHouseModel", 1862, "->"),
  ("MlHouseModel", 1913, "char"),
  ("MlHouseModel", 1915, "string"),
  ("MlHouseModel", 1917, "bool"),
  ("MlHouseModel", 1919, "list"),
  ("MlHouseModel", 1749, "ref"),
  ("MlHouseModel", 1799, "unit"),
  ("MlHouseModel", 1921, "it"),
  ("MlHouseModel", 1923, "true"),
  ("MlHouseModel", 1925, "false"),
  ("MlHouseModel", 1927, "nil"),
  ("MlHouseModel", 1933, "Match"),
  ("MlHouseModel", 1939, "Bind"),
  ("MlHouseModel", 1941, "Overflow"),
  ("MlHouseModel", 1943, "Div"),
  ("MlHouseModel", 1945, "Chr"),
  ("MlHouseModel", 1947, "Size"),
  ("MlHouseModel", 1949, "Subscript"),
  ("MlHouseModel", 1975, "= <> < > <= >= + - * div mod ~ abs not ^ size ord chr str substring explode implode makestring ! := print "),
  ("MlHouseModel", 1739, "#\""),
  ("MlHouseModel", 1715, "\\n"),
  ("MlHouseModel", 1721, "\\t"),
  ("MlHouseModel", 1744, "[]"),
  ("MlHouseModel", 1760, "fn"),
  ("MlHouseModel", 1814, "val "),
  ("MlHouseModel", 1816, " = "),
  ("MlHouseModel", 1818, " : "),
  ("MlHouseModel", 1774, "''"),
  ("MlHouseModel", 1776, "'"),
  ("MlHouseModel", 1787, " -> "),
  ("MlHouseModel", 1789, " * "),
  ("MlHouseModel", 1797, ") "),
  ("MlHouseModel", 1833, "type "),
  ("MlHouseModel", 1838, "datatype "),
  ("MlHouseModel", 1840, " ="),
  ("MlHouseModel", 1842, " "),
  ("MlHouseModel", 1844, " | "),
  ("MlHouseModel", 1831, " of "),
  ("MlHouseModel", 1829, "exception ")]
def xk_sts (cn : Nat) : List (Nat × Nat) := match cn with
  | 0 => [(325, 46), (331, 47), (333, 48), (335, 49), (337, 50), (343, 51), (345, 52), (347, 53), (351, 54), (356, 55), (360, 57), (362, 58), (398, 61), (400, 62), (402, 63), (404, 64), (406, 65), (408, 66), (410, 67), (416, 68), (386, 69), (388, 70), (390, 71), (392, 72), (394, 73), (380, 74), (382, 75), (378, 76), (371, 77), (376, 78), (384, 79), (396, 80), (425, 81), (429, 82), (430, 83), (432, 84), (433, 85), (435, 86), (437, 87), (439, 88), (441, 89), (443, 90), (445, 91), (447, 92), (449, 93), (451, 94), (453, 95), (455, 96), (1, 101)]
  | 1 => [(9, 0)]
  | 6 => [(97, 56), (103, 59), (105, 60)]
  | 10 => [(23, 1), (177, 102), (179, 103), (181, 104), (183, 105), (185, 106), (187, 107), (189, 108), (191, 109), (193, 110), (235, 111), (269, 112), (500, 113), (436, 114), (319, 115), (508, 116), (326, 117), (324, 118), (451, 119), (532, 120), (383, 121), (288, 122), (400, 123), (390, 124), (465, 125), (527, 126), (538, 127), (540, 128), (542, 129), (544, 130), (546, 131), (573, 132), (575, 133), (582, 134), (358, 135), (602, 136), (264, 137), (651, 138), (653, 139), (172, 140), (368, 141), (370, 142), (623, 143), (613, 144), (557, 145), (244, 146), (167, 147)]
  | 12 => [(11, 2), (13, 3), (15, 4), (17, 5), (19, 6), (21, 7), (23, 8), (25, 9), (27, 10), (29, 11), (31, 12), (33, 13), (35, 14), (37, 15), (39, 16), (41, 17), (43, 18), (45, 19), (47, 20), (49, 21), (51, 22), (53, 23), (55, 24), (57, 25), (59, 26), (61, 27), (63, 28), (65, 29), (67, 30), (69, 31), (71, 32), (73, 33), (75, 34), (77, 35), (79, 36), (81, 37), (83, 38), (85, 39), (87, 40), (89, 41), (91, 42), (93, 43), (95, 44), (169, 97), (293, 98), (272, 99), (204, 100)]
  | 13 => [(143, 148), (145, 149), (147, 150), (149, 151), (151, 152)]
  | 16 => [(9, 45)]
  | 17 => [(128, 155), (151, 156), (178, 157), (180, 158), (141, 159), (143, 160), (188, 161), (139, 162), (147, 163), (209, 164), (167, 165), (169, 166), (171, 167), (173, 168), (214, 169), (256, 170), (262, 171), (230, 172), (296, 173), (153, 174), (305, 175), (307, 176), (309, 177), (83, 178), (85, 179), (149, 180), (123, 181), (130, 182), (145, 183), (317, 184), (319, 185), (329, 186), (334, 187), (342, 188)]
  | 29 => [(58, 189), (60, 190), (69, 191), (1907, 192), (1856, 193), (1862, 194), (1913, 195), (1915, 196), (1917, 197), (1919, 198), (1749, 199), (1799, 200), (1921, 201), (1923, 202), (1925, 203), (1927, 204), (1933, 205), (1939, 206), (1941, 207), (1943, 208), (1945, 209), (1947, 210), (1949, 211), (1975, 212), (1739, 213), (1715, 214), (1721, 215), (1744, 216), (1760, 217), (1814, 218), (1816, 219), (1818, 220), (1774, 221), (1776, 222), (1787, 223), (1789, 224), (1797, 225), (1833, 226), (1838, 227), (1840, 228), (1842, 229), (1844, 230), (1831, 231), (1829, 232)]
  | 48 => [(79, 153)]
  | 70 => [(37, 154)]
  | _ => []
def xk_stat : List (String × String × String) := [("java/lang/Throwable", "UNASSIGNED_STACK", "[Ljava/lang/StackTraceElement;"), ("java/lang/Throwable", "SUPPRESSED_SENTINEL", "Ljava/util/List;"), ("java/util/ArrayList", "DEFAULTCAPACITY_EMPTY_ELEMENTDATA", "[Ljava/lang/Object;"), ("MlHouse$Kind", "END", "LMlHouse$Kind;"), ("java/lang/String", "COMPACT_STRINGS", "Z"), ("jdk/internal/util/Preconditions", "SIOOBE_FORMATTER", "Ljava/util/function/BiFunction;"), ("java/lang/StringUTF16", "$assertionsDisabled", "Z"), ("java/lang/StringUTF16", "HI_BYTE_SHIFT", "I"), ("java/lang/StringUTF16", "LO_BYTE_SHIFT", "I"), ("MlHouse$Kind", "NAME", "LMlHouse$Kind;"), ("MlHouse$Kind", "WORD", "LMlHouse$Kind;"), ("MlHouse$Kind", "VARIABLE", "LMlHouse$Kind;"), ("MlHouse$Kind", "INT", "LMlHouse$Kind;"), ("MlHouse$Kind", "STRING", "LMlHouse$Kind;"), ("MlHouse$Kind", "CHAR", "LMlHouse$Kind;"), ("java/util/ArrayList", "EMPTY_ELEMENTDATA", "[Ljava/lang/Object;"), ("java/lang/Integer$IntegerCache", "high", "I"), ("java/lang/Integer$IntegerCache", "cache", "[Ljava/lang/Integer;")]
def xk_gss (cn : Nat) : List (Nat × Nat) := match cn with
  | 0 => [(53, 12), (58, 14)]
  | 2 => [(13, 0), (20, 1)]
  | 9 => [(39, 2), (15, 15)]
  | 10 => [(74, 3), (174, 10), (103, 9), (380, 12), (502, 13), (505, 14), (313, 11)]
  | 12 => [(163, 3), (256, 9), (209, 10), (269, 11), (290, 12), (191, 13), (198, 14)]
  | 30 => [(38, 4), (1053, 5)]
  | 32 => [(44, 6), (59, 7), (63, 8)]
  | 34 => [(24, 10), (35, 9)]
  | 35 => [(18, 4)]
  | 43 => [(191, 16), (195, 17)]
  | 55 => [(41, 13)]
  | 71 => [(41, 13)]
  | _ => []
def xk_find {α : Type} (l : List (Nat × α)) (idx : Nat) : Option α := (l.find? (fun e => e.1 == idx)).map (fun e => e.2)
def xk_tg : List String := ["MlHouse", "MlHouse$Faults", "java/lang/IllegalStateException", "MlHouse$Types", "java/util/ArrayList", "java/lang/String", "MlHouse$Parser", "MlHouse$Strength", "MlHouse$Lexer", "MlHouse$Judge", "MlHouse$Cover", "MlHouse$Binding", "MlHouse$Machine", "MlHouse$Ends", "MlHouse$Routine", "MlHouse$Teller", "MlHouse$Base", "MlHouse$Data", "[Ljava/lang/Object;", "java/lang/Object", "MlHouse$TypeName", "MlHouse$Scheme", "MlHouse$Con", "MlHouse$Token", "java/lang/StringBuilder", "[B", "MlHouse$ValDec", "MlHouse$RowPat", "MlHouse$Pat", "java/lang/Integer", "MlHouse$Mention", "MlHouse$Values", "MlHouse$VariableTy", "MlHouse$RowTy", "MlHouse$NamedTy", "MlHouse$Ty", "MlHouse$ArrowTy", "MlHouse$AsPat", "MlHouse$NamePat", "MlHouse$TypedPat", "MlHouse$ListPat", "MlHouse$AnyPat", "MlHouse$ConstantPat", "MlHouse$ConPat", "MlHouse$Raise", "MlHouse$If", "MlHouse$While", "MlHouse$Case", "MlHouse$Rules", "MlHouse$Rule", "MlHouse$Fn", "MlHouse$Exp", "MlHouse$Sequence", "MlHouse$RowExp", "MlHouse$ListExp", "MlHouse$Let", "MlHouse$Select", "MlHouse$Use", "MlHouse$Constant", "MlHouse$Apply", "MlHouse$Infix", "MlHouse$Typed", "MlHouse$Both", "MlHouse$Handle", "MlHouse$FunDec", "MlHouse$Fun", "MlHouse$Clause", "MlHouse$TypeDec", "MlHouse$DataDec", "MlHouse$DataOne", "MlHouse$ConDec", "MlHouse$ExceptionDec", "MlHouse$LocalDec", "MlHouse$Dec", "MlHouse$Variable", "MlHouse$Line", "MlHouse$Match", "MlHouse$Maker", "[I", "MlHouseModel"]
def xk_lks (cn : Nat) : List (Nat × Nat) := match cn with
  | 0 => [(128, 1), (24, 3), (137, 6), (76, 9), (153, 10), (162, 12), (171, 15), (180, 16), (10, 4), (276, 17), (279, 20), (284, 11), (287, 22), (4, 5), (320, 7), (511, 2), (520, 73), (65, 30), (96, 74), (533, 75), (554, 76), (575, 28), (582, 77), (457, 14)]
  | 1 => [(7, 2)]
  | 6 => [(9, 4), (39, 5), (258, 21), (206, 17)]
  | 9 => [(7, 19)]
  | 10 => [(9, 4), (21, 7), (32, 5), (42, 8), (149, 26), (300, 27), (303, 28), (229, 30), (220, 31), (446, 32), (404, 33), (421, 34), (441, 35), (392, 36), (467, 37), (165, 38), (474, 39), (529, 40), (519, 41), (522, 42), (489, 43), (56, 23), (568, 44), (577, 45), (584, 46), (589, 47), (599, 48), (605, 49), (594, 50), (639, 51), (683, 52), (686, 53), (689, 54), (692, 55), (676, 56), (643, 57), (679, 58), (660, 59), (641, 60), (628, 61), (615, 62), (559, 63), (249, 64), (252, 65), (294, 66), (337, 67), (345, 68), (348, 69), (356, 70), (363, 71), (375, 72)]
  | 12 => [(9, 5), (107, 4), (161, 23), (237, 24)]
  | 13 => [(9, 4), (69, 11), (76, 20), (175, 74)]
  | 14 => [(27, 5), (33, 11), (134, 4), (176, 28)]
  | 15 => [(9, 13), (26, 14), (367, 24), (163, 2), (300, 78), (77, 5)]
  | 16 => [(7, 2)]
  | 17 => [(36, 5), (280, 21), (161, 17), (242, 22)]
  | 18 => [(7, 4), (30, 7), (52, 11), (54, 20)]
  | 19 => [(7, 4)]
  | 22 => [(110, 18), (2, 19), (311, 25)]
  | 29 => [(80, 2)]
  | 30 => [(10, 5)]
  | 36 => [(18, 5)]
  | 38 => [(9, 4), (50, 30), (75, 74), (90, 11), (142, 75)]
  | 39 => [(9, 4), (68, 28), (99, 38), (117, 39), (55, 11), (131, 50), (74, 51), (97, 41), (105, 76), (133, 77)]
  | 41 => [(43, 29), (4, 28), (83, 5), (81, 41)]
  | 43 => [(1, 29)]
  | 46 => [(26, 74)]
  | 47 => [(35, 29), (4, 35)]
  | 48 => [(4, 35)]
  | 49 => [(2, 35)]
  | 53 => [(4, 28), (77, 41)]
  | 62 => [(9, 4), (18, 76), (48, 49), (73, 11)]
  | 64 => [(42, 77)]
  | 65 => [(4, 51)]
  | 66 => [(35, 29), (4, 51)]
  | 67 => [(4, 51)]
  | 68 => [(39, 73)]
  | 72 => [(68, 57), (2, 51)]
  | 77 => [(7, 4), (28, 65), (60, 11), (77, 77)]
  | 78 => [(9, 4), (26, 66), (39, 76), (76, 28), (99, 11), (136, 77)]
  | 80 => [(76, 20), (95, 75)]
  | 81 => [(9, 4), (26, 69), (52, 17), (79, 20), (122, 74), (134, 70), (95, 11), (144, 22), (107, 75)]
  | 82 => [(7, 4)]
  | 84 => [(36, 11), (87, 4), (126, 75)]
  | 85 => [(2, 73)]
  | 88 => [(9, 4), (41, 28)]
  | 89 => [(9, 4), (86, 11), (65, 29)]
  | 94 => [(7, 0), (10, 79)]
  | _ => []
def xk_cas : List (Nat × Nat) := [(0, 0), (0, 19), (1, 1), (1, 19), (2, 19), (3, 2), (3, 19), (4, 3), (4, 19), (5, 4), (5, 19), (6, 6), (6, 19), (7, 7), (7, 19), (8, 8), (8, 19), (9, 9), (9, 19), (10, 10), (10, 19), (11, 12), (11, 19), (12, 13), (12, 19), (13, 15), (13, 19), (14, 16), (14, 19), (15, 17), (15, 19), (16, 19), (16, 20), (17, 19), (17, 21), (18, 11), (18, 19), (19, 19), (19, 22), (20, 19), (20, 79), (21, 5), (21, 19), (22, 19), (22, 23), (23, 19), (23, 24), (24, 19), (24, 26), (24, 31), (24, 73), (25, 19), (25, 27), (25, 28), (26, 19), (26, 29), (27, 19), (27, 30), (28, 19), (28, 32), (28, 35), (29, 19), (29, 33), (29, 35), (30, 19), (30, 34), (30, 35), (31, 19), (31, 35), (31, 36), (32, 19), (32, 28), (32, 37), (33, 19), (33, 28), (33, 38), (34, 19), (34, 28), (34, 39), (35, 19), (35, 28), (35, 40), (36, 19), (36, 28), (36, 41), (37, 19), (37, 28), (37, 42), (38, 19), (38, 28), (38, 43), (39, 19), (39, 44), (39, 51), (40, 19), (40, 45), (40, 51), (41, 19), (41, 46), (41, 51), (42, 19), (42, 47), (42, 51), (43, 19), (43, 48), (44, 19), (44, 49), (45, 19), (45, 50), (45, 51), (46, 19), (46, 51), (46, 52), (47, 19), (47, 51), (47, 53), (48, 19), (48, 51), (48, 54), (49, 19), (49, 51), (49, 55), (50, 19), (50, 51), (50, 56), (51, 19), (51, 51), (51, 57), (52, 19), (52, 51), (52, 58), (53, 19), (53, 51), (53, 59), (54, 19), (54, 51), (54, 60), (55, 19), (55, 51), (55, 61), (56, 19), (56, 51), (56, 62), (57, 19), (57, 51), (57, 63), (58, 19), (58, 31), (58, 64), (58, 73), (59, 19), (59, 65), (60, 19), (60, 66), (61, 19), (61, 67), (61, 73), (62, 19), (62, 68), (62, 73), (63, 19), (63, 69), (64, 19), (64, 70), (65, 19), (65, 71), (65, 73), (66, 19), (66, 72), (66, 73), (67, 19), (67, 74), (68, 19), (68, 75), (69, 19), (69, 76), (70, 19), (70, 77), (71, 14), (71, 19)]
def xk_ncs : List (Nat × Nat) := [(39, 57), (39, 50), (40, 57), (40, 50), (41, 57), (41, 50), (42, 57), (42, 50), (45, 57), (46, 57), (46, 50), (47, 57), (47, 50), (48, 57), (48, 50), (49, 57), (49, 50), (50, 57), (50, 50), (51, 50), (52, 57), (52, 50), (53, 57), (53, 50), (54, 57), (54, 50), (55, 57), (55, 50), (56, 57), (56, 50), (57, 57), (57, 50), (25, 41), (25, 38), (25, 39), (32, 41), (32, 38), (32, 39), (33, 41), (33, 39), (34, 41), (34, 38), (35, 41), (35, 38), (35, 39), (36, 38), (36, 39), (37, 41), (37, 38), (37, 39), (38, 41), (38, 38), (38, 39)]
def xk_ncn : List (String × String) := [("MlHouse$Raise", "MlHouse$Use"), ("MlHouse$Raise", "MlHouse$Fn"), ("MlHouse$If", "MlHouse$Use"), ("MlHouse$If", "MlHouse$Fn"), ("MlHouse$While", "MlHouse$Use"), ("MlHouse$While", "MlHouse$Fn"), ("MlHouse$Case", "MlHouse$Use"), ("MlHouse$Case", "MlHouse$Fn"), ("MlHouse$Fn", "MlHouse$Use"), ("MlHouse$Sequence", "MlHouse$Use"), ("MlHouse$Sequence", "MlHouse$Fn"), ("MlHouse$RowExp", "MlHouse$Use"), ("MlHouse$RowExp", "MlHouse$Fn"), ("MlHouse$ListExp", "MlHouse$Use"), ("MlHouse$ListExp", "MlHouse$Fn"), ("MlHouse$Let", "MlHouse$Use"), ("MlHouse$Let", "MlHouse$Fn"), ("MlHouse$Select", "MlHouse$Use"), ("MlHouse$Select", "MlHouse$Fn"), ("MlHouse$Use", "MlHouse$Fn"), ("MlHouse$Constant", "MlHouse$Use"), ("MlHouse$Constant", "MlHouse$Fn"), ("MlHouse$Apply", "MlHouse$Use"), ("MlHouse$Apply", "MlHouse$Fn"), ("MlHouse$Infix", "MlHouse$Use"), ("MlHouse$Infix", "MlHouse$Fn"), ("MlHouse$Typed", "MlHouse$Use"), ("MlHouse$Typed", "MlHouse$Fn"), ("MlHouse$Both", "MlHouse$Use"), ("MlHouse$Both", "MlHouse$Fn"), ("MlHouse$Handle", "MlHouse$Use"), ("MlHouse$Handle", "MlHouse$Fn"), ("MlHouse$RowPat", "MlHouse$AnyPat"), ("MlHouse$RowPat", "MlHouse$NamePat"), ("MlHouse$RowPat", "MlHouse$TypedPat"), ("MlHouse$AsPat", "MlHouse$AnyPat"), ("MlHouse$AsPat", "MlHouse$NamePat"), ("MlHouse$AsPat", "MlHouse$TypedPat"), ("MlHouse$NamePat", "MlHouse$AnyPat"), ("MlHouse$NamePat", "MlHouse$TypedPat"), ("MlHouse$TypedPat", "MlHouse$AnyPat"), ("MlHouse$TypedPat", "MlHouse$NamePat"), ("MlHouse$ListPat", "MlHouse$AnyPat"), ("MlHouse$ListPat", "MlHouse$NamePat"), ("MlHouse$ListPat", "MlHouse$TypedPat"), ("MlHouse$AnyPat", "MlHouse$NamePat"), ("MlHouse$AnyPat", "MlHouse$TypedPat"), ("MlHouse$ConstantPat", "MlHouse$AnyPat"), ("MlHouse$ConstantPat", "MlHouse$NamePat"), ("MlHouse$ConstantPat", "MlHouse$TypedPat"), ("MlHouse$ConPat", "MlHouse$AnyPat"), ("MlHouse$ConPat", "MlHouse$NamePat"), ("MlHouse$ConPat", "MlHouse$TypedPat")]
def xk_ass : List (Nat × Nat) := [(0, 5), (1, 5), (2, 5), (3, 5), (4, 5), (5, 5), (6, 5), (7, 5), (8, 5), (9, 5), (10, 5), (11, 5), (12, 5), (13, 5), (14, 5), (14, 9), (15, 5), (16, 5), (17, 5), (18, 5), (18, 7), (19, 5), (20, 5), (21, 5), (21, 6), (22, 5), (23, 5), (24, 5), (25, 5), (26, 5), (27, 5), (28, 5), (29, 5), (30, 5), (31, 5), (32, 5), (33, 5), (34, 5), (35, 5), (36, 5), (37, 5), (38, 5), (39, 5), (40, 5), (41, 5), (42, 5), (43, 5), (44, 5), (45, 5), (46, 5), (47, 5), (48, 5), (49, 5), (50, 5), (51, 5), (52, 5), (53, 5), (54, 5), (55, 5), (56, 5), (57, 5), (58, 5), (59, 5), (60, 5), (61, 5), (62, 5), (63, 5), (64, 5), (65, 5), (66, 5), (67, 5), (68, 5), (69, 5), (70, 5), (70, 10), (71, 5), (71, 8)]
def xk_kcon (sa : Nat → Nat) (cn idx : Nat) : Option Value := match xk_find (xk_cons cn) idx with
  | some v => some v
  | none => (xk_find (xk_sts cn) idx).map (fun j => .ref (sa j))
def xk_ldc (sa : Nat → Nat) (k : xj_M) (i : Instr) (st : List Value) (h : List xj_E) : Option xk_S := match i with
  | .ldc idx => match xk_kcon sa k.2.2.2.2.2 idx with
    | some (.int v) => some (.int v :: st, h, 0, 0, 2)
    | some (.ref a) => some (.ref a :: st, h, 0, 0, 2)
    | _ => none
  | .ldc_w idx => match xk_kcon sa k.2.2.2.2.2 idx with
    | some (.int v) => some (.int v :: st, h, 0, 0, 3)
    | some (.ref a) => some (.ref a :: st, h, 0, 0, 3)
    | _ => none
  | .ldc2_w idx => match xk_kcon sa k.2.2.2.2.2 idx with
    | some (.long v) => some (.long v :: st, h, 0, 0, 3)
    | _ => none
  | _ => none
def xk_gs (sv : Nat → Value) (k : xj_M) (idx : Nat) (st : List Value) (h : List xj_E) : Option xk_S := match xk_find (xk_gss k.2.2.2.2.2) idx with
  | some j => some (sv j :: st, h, 0, 0, 3)
  | none => none
def xk_cst (b : Nat) (ol : List (Nat × xj_E)) (k : xj_M) (i : Instr) (st : List Value) (h : List xj_E) : Option xk_S := match i, st with
  | .checkcast _, .null :: r => some (.null :: r, h, 0, 0, 3)
  | .instanceof _, .null :: r => some (.int 0 :: r, h, 0, 0, 3)
  | .checkcast idx, .ref a :: r => match xk_look b ol h a, xk_find (xk_lks k.2.2.2.2.2) idx with
    | some (.inr (ci, _)), some tn => if (ci, tn) ∈ xk_cas then some (.ref a :: r, h, 0, 0, 3) else none
    | _, _ => none
  | .instanceof idx, .ref a :: r => match xk_look b ol h a, xk_find (xk_lks k.2.2.2.2.2) idx with
    | some (.inr (ci, _)), some tn => if (ci, tn) ∈ xk_cas then some (.int 1 :: r, h, 0, 0, 3) else if (ci, tn) ∈ xk_ncs then some (.int 0 :: r, h, 0, 0, 3) else none
    | _, _ => none
  | _, _ => none
def xk_aas (b : Nat) (ol : List (Nat × xj_E)) (st : List Value) (h : List xj_E) : Option xk_S := match st with
  | .null :: .int j :: .ref a :: r => if b ≤ a then (match h[a - b]? with
    | some (.inl (t, n, .inr (.inr (.inr (.inr f))))) => if xk_idx j n = true ∧ 5 ≤ t ∧ t < 12 then some (r, h.set (a - b) (.inl (t, n, .inr (.inr (.inr (.inr (va_up f j.toNatClampNeg none)))))), 0, 0, 1) else none
    | _ => none) else none
  | .ref v :: .int j :: .ref a :: r => if b ≤ a then (match h[a - b]?, xk_look b ol h v with
    | some (.inl (t, n, .inr (.inr (.inr (.inr f))))), some (.inr (ci, _)) => if xk_idx j n = true ∧ (ci, t) ∈ xk_ass then some (r, h.set (a - b) (.inl (t, n, .inr (.inr (.inr (.inr (va_up f j.toNatClampNeg (some v))))))), 0, 0, 1) else none
    | _, _ => none) else none
  | _ => none
abbrev xk_so : Type := (Nat × Nat × (Nat → Value)) ⊕ (Nat × List (Nat × Value))
def xk_tyo (t : Nat) : Option FieldType := match t with
  | 0 => some .int
  | 2 => some .byte
  | 5 => some (.object "java/lang/Object")
  | 11 => some (.object "java/lang/Integer")
  | _ => none
def xk_lkc (b : Nat) (ol : List (Nat × xj_E)) (os : Nat → Option xk_so) (h : List xj_E) (a : Nat) : Option Nat := match xk_look b ol h a with
  | some (.inr e) => some e.1
  | some (.inl _) => none
  | none => match os a with
    | some (.inr o) => some o.1
    | _ => none
def xk_arn : List (Nat × String) := [(0, "[I"), (1, "[J"), (2, "[B"), (3, "[Z"), (4, "[C"), (5, "[Ljava/lang/Object;"), (6, "[Ljava/lang/String;"), (7, "[LMlHouse$Binding;"), (8, "[LMlHouse$Routine;"), (9, "[LMlHouse$Base;"), (10, "[LMlHouse$Maker;")]
def xk_acs : List (Nat × Nat) := [(22, 150), (6, 246), (0, 462), (9, 112), (90, 31), (15, 127)]
def xk_bnd (sp dp n : Int32) (n0 n1 : Nat) : Bool := decide (¬ sp < 0 ∧ ¬ dp < 0 ∧ ¬ n < 0 ∧ sp.toNatClampNeg + n.toNatClampNeg ≤ n0 ∧ dp.toNatClampNeg + n.toNatClampNeg ≤ n1)
def xk_room (r : List Value) : Bool := decide ((r.map fun v => v.category).sum ≤ 16)
def xk_pty (t : Nat) : Option FieldType := match t with
  | 0 => some .int
  | 2 => some .byte
  | 3 => some .boolean
  | 4 => some .char
  | _ => none
def xk_elt (b : Nat) (ol : List (Nat × xj_E)) (os : Nat → Option xk_so) (h : List xj_E) (t : Nat) (v : Option Nat) : Bool := match v with
  | none => true
  | some a => match xk_look b ol h a with
    | some (.inr o) => decide ((o.1, t) ∈ xk_ass)
    | some (.inl x) => decide (t = 5) && (xk_find xk_arn x.1).isSome
    | none => match os a with
      | some (.inr o) => decide ((o.1, t) ∈ xk_ass)
      | _ => false
def xk_cpy (b : Nat) (ol : List (Nat × xj_E)) (os : Nat → Option xk_so) (k : xj_M) (idx : Nat) (st : List Value) (h : List xj_E) : Option xk_S := match st with
  | .int n :: .int dp :: .ref a :: .int sp :: .ref a0 :: r => if b ≤ a ∧ xk_room r = true ∧ (k.2.2.2.2.2, idx) ∈ xk_acs then (match h[a - b]?, xk_look b ol h a0 with
    | some (.inl (t1, n1, .inl g)), some (.inl (t0, n0, .inl f)) => (match xk_pty t1 with
      | some ty => if t0 = t1 ∧ xk_bnd sp dp n n0 n1 = true ∧ (List.range n.toNatClampNeg).all (fun i => fits ty (.int (f (sp.toNatClampNeg + i)))) = true then some (r, h.set (a - b) (.inl (t1, n1, .inl (va_cpy f g sp.toNatClampNeg dp.toNatClampNeg n.toNatClampNeg))), 0, 0, 3) else none
      | none => none)
    | some (.inl (t1, n1, .inr (.inl g))), some (.inl (t0, n0, .inr (.inl f))) => if t0 = 1 ∧ t1 = 1 ∧ xk_bnd sp dp n n0 n1 = true then some (r, h.set (a - b) (.inl (t1, n1, .inr (.inl (va_cpy f g sp.toNatClampNeg dp.toNatClampNeg n.toNatClampNeg)))), 0, 0, 3) else none
    | some (.inl (t1, n1, .inr (.inr (.inr (.inr g))))), some (.inl (t0, n0, .inr (.inr (.inr (.inr f))))) => if (5 ≤ t0 ∧ t0 < 12) ∧ (5 ≤ t1 ∧ t1 < 12) ∧ xk_bnd sp dp n n0 n1 = true ∧ (List.range n.toNatClampNeg).all (fun i => xk_elt b ol os h t1 (f (sp.toNatClampNeg + i))) = true then some (r, h.set (a - b) (.inl (t1, n1, .inr (.inr (.inr (.inr (va_cpy f g sp.toNatClampNeg dp.toNatClampNeg n.toNatClampNeg)))))), 0, 0, 3) else none
    | _, _ => none) else none
  | _ => none
def xk_aas2 (b : Nat) (ol : List (Nat × xj_E)) (os : Nat → Option xk_so) (st : List Value) (h : List xj_E) : Option xk_S := match st with
  | .ref v :: .int j :: .ref a :: r => if b ≤ a then (match h[a - b]? with
    | some (.inl (t, n, .inr (.inr (.inr (.inr f))))) => if (5 ≤ t ∧ t < 12) ∧ xk_idx j n = true ∧ xk_elt b ol os h t (some v) = true then some (r, h.set (a - b) (.inl (t, n, .inr (.inr (.inr (.inr (va_up f j.toNatClampNeg (some v))))))), 0, 0, 1) else none
    | _ => none) else none
  | _ => none
def xk_obi (k : xj_M) (idx : Nat) (st : List Value) (h : List xj_E) : Option xk_S := match st with
  | .ref _ :: r => if xk_room r = true ∧ (k.2.2.2.2.2, idx) ∈ xk_oin then some (r, h, 0, 0, 3) else none
  | _ => none
def xk_gcl (mi : Nat) (b : Nat) (ol : List (Nat × xj_E)) (k : xj_M) (idx : Nat) (st : List Value) (h : List xj_E) : Option xk_S := match st with
  | .ref a :: r => if xk_room r = true ∧ k.2.2.2.2.2 = 22 ∧ idx = 86 then (match xk_look b ol h a with
    | some (.inl x) => if x.1 = 5 then some (.ref mi :: r, h, 0, 0, 3) else none
    | _ => none) else none
  | _ => none
def xk_ldm (mi : Nat) (k : xj_M) (idx : Nat) (st : List Value) (h : List xj_E) : Option xk_S := if k.2.2.2.2.2 = 22 ∧ idx = 110 then some (.ref mi :: st, h, 0, 0, 2) else none
def xk_cta : List (Nat × Nat × Nat) := [(22, 110, 5), (22, 311, 2), (15, 300, 0)]
def xk_cas2 (b : Nat) (ol : List (Nat × xj_E)) (k : xj_M) (idx : Nat) (st : List Value) (h : List xj_E) : Option xk_S := match st with
  | .ref a :: r => (match xk_look b ol h a with
    | some (.inl x) => if (k.2.2.2.2.2, idx, x.1) ∈ xk_cta then some (.ref a :: r, h, 0, 0, 3) else none
    | _ => none)
  | _ => none
def xk_cln (b : Nat) (ol : List (Nat × xj_E)) (k : xj_M) (idx : Nat) (st : List Value) (h : List xj_E) : Option xk_S := match st with
  | .ref a :: r => if xk_room r = true ∧ k.2.2.2.2.2 = 22 ∧ idx = 310 then (match xk_look b ol h a with
    | some (.inl (t, n, .inl f)) => if t = 2 ∧ (List.range n).all (fun i => fits .byte (.int (f i))) = true then some (.ref (b + h.length) :: r, h ++ [.inl (2, n, .inl f)], 1, n, 3) else none
    | _ => none) else none
  | _ => none
def xk_og (os : Nat → Option xk_so) (k : xj_M) (idx : Nat) (st : List Value) (h : List xj_E) : Option xk_S := match st with
  | .ref a :: r => match os a with
    | some (.inr o) => match xk_kf k.2.2.2.2.2 idx o.1 with
      | some f => match xk_find o.2 f with
        | some v => some (v :: r, h, 0, 0, 3)
        | none => none
      | none => none
    | _ => none
  | _ => none
def xk_oln (os : Nat → Option xk_so) (st : List Value) (h : List xj_E) : Option xk_S := match st with
  | .ref a :: r => match os a with
    | some (.inl y) => some (.int (Int32.ofNat y.2.1) :: r, h, 0, 0, 1)
    | _ => none
  | _ => none
def xk_old1 (os : Nat → Option xk_so) (i : Instr) (st : List Value) (h : List xj_E) : Option xk_S := match st with
  | .int j :: .ref a :: r => match os a with
    | some (.inl y) => if xk_idx j y.2.1 = true then (match i with
      | .iaload => if y.1 = 0 then some (y.2.2 j.toNatClampNeg :: r, h, 0, 0, 1) else none
      | .baload => if y.1 = 2 then some (y.2.2 j.toNatClampNeg :: r, h, 0, 0, 1) else none
      | .aaload => if y.1 = 11 then some (y.2.2 j.toNatClampNeg :: r, h, 0, 0, 1) else none
      | _ => none) else none
    | _ => none
  | _ => none
def xk_oct (b : Nat) (ol : List (Nat × xj_E)) (os : Nat → Option xk_so) (k : xj_M) (idx : Nat) (st : List Value) (h : List xj_E) : Option xk_S := match st with
  | .ref a :: r => match xk_lkc b ol os h a, xk_find (xk_lks k.2.2.2.2.2) idx with
    | some ci, some tn => if (ci, tn) ∈ xk_cas then some (.ref a :: r, h, 0, 0, 3) else none
    | _, _ => none
  | _ => none
def xk_aas3 (b : Nat) (ol : List (Nat × xj_E)) (os : Nat → Option xk_so) (st : List Value) (h : List xj_E) : Option xk_S := match st with
  | .ref v :: .int j :: .ref a :: r => if b ≤ a then (match h[a - b]?, xk_lkc b ol os h v with
    | some (.inl (t, n, .inr (.inr (.inr (.inr f))))), some ci => if xk_idx j n = true ∧ (ci, t) ∈ xk_ass then some (r, h.set (a - b) (.inl (t, n, .inr (.inr (.inr (.inr (va_up f j.toNatClampNeg (some v))))))), 0, 0, 1) else none
    | _, _ => none) else none
  | _ => none
def xk_oio (b : Nat) (ol : List (Nat × xj_E)) (os : Nat → Option xk_so) (k : xj_M) (idx : Nat) (st : List Value) (h : List xj_E) : Option xk_S := match st with
  | .ref a :: r => match xk_lkc b ol os h a, xk_find (xk_lks k.2.2.2.2.2) idx with
    | some ci, some tn => if (ci, tn) ∈ xk_cas then some (.int 1 :: r, h, 0, 0, 3) else if (ci, tn) ∈ xk_ncs then some (.int 0 :: r, h, 0, 0, 3) else none
    | _, _ => none
  | _ => none
def xk_ogc (mi : Nat) (os : Nat → Option xk_so) (k : xj_M) (idx : Nat) (st : List Value) (h : List xj_E) : Option xk_S := match st with
  | .ref a :: r => if xk_room r = true ∧ k.2.2.2.2.2 = 22 ∧ idx = 86 then (match os a with
    | some (.inl y) => if y.1 = 5 then some (.ref mi :: r, h, 0, 0, 3) else none
    | _ => none) else none
  | _ => none
def xk_cp0 (b : Nat) (os : Nat → Option xk_so) (k : xj_M) (idx : Nat) (st : List Value) (h : List xj_E) : Option xk_S := match st with
  | .int n :: .int dp :: .ref a :: .int sp :: .ref a0 :: r => if b ≤ a ∧ xk_room r = true ∧ (k.2.2.2.2.2, idx) ∈ xk_acs ∧ n = 0 ∧ dp = 0 ∧ sp = 0 then (match h[a - b]?, os a0 with
    | some (.inl (t1, n1, .inr (.inr (.inr (.inr g))))), some (.inl y) => if (5 ≤ t1 ∧ t1 < 12) ∧ y.1 = 5 then some (r, h, 0, 0, 3) else none
    | _, _ => none) else none
  | _ => none
def xk_kh (sa : Nat → Nat) (sv : Nat → Value) (mi b : Nat) (ol : List (Nat × xj_E)) (os : Nat → Option xk_so) (k : xj_M) (i : Instr) (st : List Value) (h : List xj_E) : Option xk_S := match i with
  | .getfield idx => match xk_get b ol k idx st h with
    | some q => some q
    | none => xk_og os k idx st h
  | .putfield idx => xk_put b k idx st h
  | .new idx => xk_mk b k idx st h
  | .arraylength => match xk_len b ol st h with
    | some q => some q
    | none => xk_oln os st h
  | .newarray t => xk_na b t st h
  | .anewarray idx => xk_nq b k idx st h
  | .getstatic idx => xk_gs sv k idx st h
  | .ldc idx => match xk_ldm mi k idx st h with
    | some q => some q
    | none => xk_ldc sa k (.ldc idx) st h
  | .checkcast idx => match xk_cas2 b ol k idx st h with
    | some q => some q
    | none => match xk_oct b ol os k idx st h with
      | some q => some q
      | none => xk_cst b ol k (.checkcast idx) st h
  | .aastore => match xk_aas b ol st h with
    | some q => some q
    | none => match xk_aas2 b ol os st h with
      | some q => some q
      | none => xk_aas3 b ol os st h
  | .invokestatic idx => match xk_cpy b ol os k idx st h with
    | some q => some q
    | none => xk_cp0 b os k idx st h
  | .instanceof idx => match xk_oio b ol os k idx st h with
    | some q => some q
    | none => xk_cst b ol k (.instanceof idx) st h
  | .invokespecial idx => xk_obi k idx st h
  | .invokevirtual idx => match xk_gcl mi b ol k idx st h with
    | some q => some q
    | none => match xk_ogc mi os k idx st h with
      | some q => some q
      | none => xk_cln b ol k idx st h
  | i => match xk_ld b ol i st h with
    | some q => some q
    | none => match xk_sto b i st h with
      | some q => some q
      | none => match xk_old1 os i st h with
        | some q => some q
        | none => match xk_ldc sa k i st h with
          | some q => some q
          | none => xk_cst b ol k i st h
def xk_kt (b : Nat) (ol : List (Nat × xj_E)) (h : List xj_E) (a : Nat) : Bool := match xk_look b ol h a with
  | some (.inr o) => decide (o.1 = 3)
  | _ => false
abbrev HV : Type := Int32 ⊕ Int64 ⊕ Option Nat
abbrev HC : Type := (Nat → Nat) × (Nat → Value) × Nat × Nat × (Nat → Option xk_so)
abbrev HO : Type := Option (Option (Option Value) × List xj_E)
def hval (x : HV) : Value := match x with
  | .inl v => .int v
  | .inr (.inl v) => .long v
  | .inr (.inr r) => va_rf r
def hsz (x : xj_E) : Nat := match x with
  | .inl a => a.2.1
  | .inr o => if o.1 = 3 then 6 else o.2.length
def hsl (h : List xj_E) : Nat := (h.map hsz).sum
def hlet {α : Type} (v : α) (k : α → HO) : HO := k v
def hrI (v : Int32) (h : List xj_E) : HO := some (some (some (.int v)), h)
def hrN (ty : FieldType) (v : Int32) (h : List xj_E) : HO := if narrow ty (.int v) = .int v then some (some (some (.int v)), h) else none
def hrL (v : Int64) (h : List xj_E) : HO := some (some (some (.long v)), h)
def hrR (r : Option Nat) (h : List xj_E) : HO := some (some (some (va_rf r)), h)
def hrV (h : List xj_E) : HO := some (some none, h)
def hfv (C : HC) (F : List Nat × Nat) (r : Option Nat) (h : List xj_E) : Option Value := match r with
  | none => none
  | some a => match xk_look C.2.2.2.1 [] h a with
    | some (.inr o) => if o.1 ∈ F.1 then o.2[F.2]? else none
    | some (.inl _) => none
    | none => match C.2.2.2.2 a with
      | some (.inr o) => if o.1 ∈ F.1 then xk_find o.2 F.2 else none
      | _ => none
def hgI (C : HC) (F : List Nat × Nat) (r : Option Nat) (h : List xj_E) (k : Int32 → HO) : HO := match hfv C F r h with
  | some (.int v) => k v
  | _ => none
def hgJ (C : HC) (F : List Nat × Nat) (r : Option Nat) (h : List xj_E) (k : Int64 → HO) : HO := match hfv C F r h with
  | some (.long v) => k v
  | _ => none
def hgR (C : HC) (F : List Nat × Nat) (r : Option Nat) (h : List xj_E) (k : Option Nat → HO) : HO := match hfv C F r h with
  | some (.ref a) => k (some a)
  | some .null => k none
  | _ => none
def hpf (C : HC) (F : List Nat × Nat) (r : Option Nat) (v : Value) (h : List xj_E) (k : List xj_E → HO) : HO := match r with
  | none => none
  | some a => if C.2.2.2.1 ≤ a then (match h[a - C.2.2.2.1]? with
    | some (.inr o) => if o.1 ∈ F.1 ∧ narrow (xk_ty o.1 F.2) v = v ∧ fits (xk_ty o.1 F.2) v = true ∧ F.2 < o.2.length then k (h.set (a - C.2.2.2.1) (.inr (o.1, o.2.set F.2 v))) else none
    | _ => none) else none
def hnew (C : HC) (ci n : Nat) (h : List xj_E) (k : Option Nat → List xj_E → HO) : HO := k (some (C.2.2.2.1 + h.length)) (h ++ [.inr (ci, (List.range n).map (fun f => defaultValue (xk_ty ci f)))])
def hlen (C : HC) (r : Option Nat) (h : List xj_E) (k : Int32 → HO) : HO := match r with
  | none => none
  | some a => match xk_look C.2.2.2.1 [] h a with
    | some (.inl x) => if x.1 < 12 then k (Int32.ofNat x.2.1) else none
    | some (.inr _) => none
    | none => match C.2.2.2.2 a with
      | some (.inl y) => k (Int32.ofNat y.2.1)
      | _ => none
def hldv (C : HC) (i : Instr) (r : Option Nat) (j : Int32) (h : List xj_E) : Option Value := match r with
  | none => none
  | some a => match xk_look C.2.2.2.1 [] h a with
    | some (.inl x) => xk_ald i x.1 x.2 j
    | some (.inr _) => none
    | none => match C.2.2.2.2 a with
      | some (.inl y) => if xk_idx j y.2.1 = true ∧ ((i = .iaload ∧ y.1 = 0) ∨ (i = .baload ∧ y.1 = 2) ∨ (i = .aaload ∧ y.1 = 11)) then some (y.2.2 j.toNatClampNeg) else none
      | _ => none
def haI (C : HC) (i : Instr) (r : Option Nat) (j : Int32) (h : List xj_E) (k : Int32 → HO) : HO := match hldv C i r j h with
  | some (.int v) => k v
  | _ => none
def haJ (C : HC) (r : Option Nat) (j : Int32) (h : List xj_E) (k : Int64 → HO) : HO := match hldv C .laload r j h with
  | some (.long v) => k v
  | _ => none
def haR (C : HC) (r : Option Nat) (j : Int32) (h : List xj_E) (k : Option Nat → HO) : HO := match hldv C .aaload r j h with
  | some (.ref a) => k (some a)
  | some .null => k none
  | _ => none
def hst (C : HC) (i : Instr) (r : Option Nat) (j : Int32) (v : Value) (h : List xj_E) (k : List xj_E → HO) : HO := match r with
  | none => none
  | some a => if C.2.2.2.1 ≤ a then (match h[a - C.2.2.2.1]? with
    | some (.inl x) => match xk_ast i x.1 x.2 j v with
      | some y => k (h.set (a - C.2.2.2.1) (.inl (x.1, y)))
      | none => none
    | _ => none) else none
def hkm (cn : Nat) : xj_M := (x, code, 4, ret, [], cn)
def hsR (C : HC) (r : Option Nat) (j : Int32) (w : Option Nat) (h : List xj_E) (k : List xj_E → HO) : HO := match xk_kh C.1 C.2.1 C.2.2.1 C.2.2.2.1 [] C.2.2.2.2 (hkm 0) .aastore [va_rf w, .int j, va_rf r] h with
  | some q => k q.2.1
  | none => none
def hna (C : HC) (t : ArrayType) (n : Int32) (h : List xj_E) (k : Option Nat → List xj_E → HO) : HO := match xk_na C.2.2.2.1 t [.int n] h with
  | some q => k (some (C.2.2.2.1 + h.length)) q.2.1
  | none => none
def hnq (C : HC) (t : Nat) (n : Int32) (h : List xj_E) (k : Option Nat → List xj_E → HO) : HO := if n < 0 ∨ 16777216 < n.toNatClampNeg then none else k (some (C.2.2.2.1 + h.length)) (h ++ [.inl (t, n.toNatClampNeg, .inr (.inr (.inr (.inr (fun _ => none)))))])
def hsvI (C : HC) (j : Nat) (k : Int32 → HO) : HO := match C.2.1 j with
  | .int v => k v
  | _ => none
def hsvR (C : HC) (j : Nat) (k : Option Nat → HO) : HO := match C.2.1 j with
  | .ref a => k (some a)
  | .null => k none
  | _ => none
def hcc (C : HC) (cn idx : Nat) (r : Option Nat) (h : List xj_E) (k : HO) : HO := match xk_kh C.1 C.2.1 C.2.2.1 C.2.2.2.1 [] C.2.2.2.2 (hkm cn) (.checkcast idx) [va_rf r] h with
  | some _ => k
  | none => none
def hio (C : HC) (cn idx : Nat) (r : Option Nat) (h : List xj_E) (k : Int32 → HO) : HO := match xk_kh C.1 C.2.1 C.2.2.1 C.2.2.2.1 [] C.2.2.2.2 (hkm cn) (.instanceof idx) [va_rf r] h with
  | some (.int v :: _, _) => k v
  | _ => none
def hac (C : HC) (cn idx : Nat) (a0 : Option Nat) (sp : Int32) (a : Option Nat) (dp n : Int32) (h : List xj_E) (k : List xj_E → HO) : HO := match xk_kh C.1 C.2.1 C.2.2.1 C.2.2.2.1 [] C.2.2.2.2 (hkm cn) (.invokestatic idx) [.int n, .int dp, va_rf a, .int sp, va_rf a0] h with
  | some q => k q.2.1
  | none => none
def hnull (r : Option Nat) (A B : HO) : HO := match r with
  | none => A
  | some _ => B
def hthrow (C : HC) (r : Option Nat) (h : List xj_E) : HO := match r with
  | none => none
  | some a => if xk_kt C.2.2.2.1 [] h a = true then some (none, h) else none
def hcl (rec : Nat → Nat → List HV → List xj_E → HO) (d tag : Nat) (as : List HV) (h : List xj_E) : HO := match d with
  | 0 => none
  | d + 1 => rec d tag as h
def hcv (C : HC) (rec : Nat → Nat → List HV → List xj_E → HO) (d : Nat) (cs : List (Nat × Nat)) (r : Option Nat) (as : List HV) (h : List xj_E) : HO := match r with
  | none => none
  | some a => match xk_lkc C.2.2.2.1 [] C.2.2.2.2 h a with
    | none => none
    | some ci => match xk_find cs ci with
      | none => none
      | some tag => hcl rec d tag (.inr (.inr (some a)) :: as) h
def hI (x : HO) (k : Int32 → List xj_E → HO) : HO := match x with
  | some (some (some (.int v)), h) => k v h
  | some (none, h) => some (none, h)
  | _ => none
def hJ (x : HO) (k : Int64 → List xj_E → HO) : HO := match x with
  | some (some (some (.long v)), h) => k v h
  | some (none, h) => some (none, h)
  | _ => none
def hR (x : HO) (k : Option Nat → List xj_E → HO) : HO := match x with
  | some (some (some (.ref a)), h) => k (some a) h
  | some (some (some .null), h) => k none h
  | some (none, h) => some (none, h)
  | _ => none
def hV (x : HO) (k : List xj_E → HO) : HO := match x with
  | some (some none, h) => k h
  | some (none, h) => some (none, h)
  | _ => none
def okc : List (Nat × Value) → Nat → Prop
  | [], _ => True
  | (j, w) :: t, i => (j + 1 = i → w.category = 1) ∧ okc t i
def pu1 (lv : List (Nat × Value)) (i : Nat) (v : Value) : List (Nat × Value) := (i, v) :: lv.filter (fun q => !(q.1 == i))
def pu2 (lv : List (Nat × Value)) (i : Nat) (v : Value) : List (Nat × Value) := (i, v) :: lv.filter (fun q => !(q.1 == i) && !(q.1 == i + 1))
def hvc (x : HV) : Nat := match x with
  | .inl _ => 1
  | .inr (.inl _) => 2
  | .inr (.inr _) => 1
def hcs (rec : Nat → Nat → List HV → List xj_E → HO) (d tag : Nat) (r : Option Nat) (as : List HV) (h : List xj_E) : HO := match r with
  | none => none
  | some a => hcl rec d tag (.inr (.inr (some a)) :: as) h
def hnz (y : Int32) (k : HO) : HO := if y = 0 then none else k
def hnzL (y : Int64) (k : HO) : HO := if y = 0 then none else k
def hIh (x : HO) (kt : List xj_E → HO) (kf : Int32 → List xj_E → HO) : HO := match x with
  | some (some (some (.int v)), h) => kf v h
  | some (none, h) => kt h
  | _ => none
def hRh (x : HO) (kt : List xj_E → HO) (kf : Option Nat → List xj_E → HO) : HO := match x with
  | some (some (some (.ref a)), h) => kf (some a) h
  | some (some (some .null), h) => kf none h
  | some (none, h) => kt h
  | _ => none
def hVh (x : HO) (kt : List xj_E → HO) (kf : List xj_E → HO) : HO := match x with
  | some (some none, h) => kf h
  | some (none, h) => kt h
  | _ => none
def hgc (C : HC) (r : Option Nat) (h : List xj_E) (kf : Option Nat → HO) : HO := match r with
  | none => none
  | some a => match xk_look C.2.2.2.1 [] h a with
    | some (.inl x) => if x.1 = 5 then kf (some C.2.2.1) else none
    | some (.inr _) => none
    | none => match C.2.2.2.2 a with
      | some (.inl y) => if y.1 = 5 then kf (some C.2.2.1) else none
      | _ => none
def hcln (C : HC) (r : Option Nat) (h : List xj_E) (kf : Option Nat → List xj_E → HO) : HO := match r with
  | none => none
  | some a => match xk_look C.2.2.2.1 [] h a with
    | some (.inl (t, n, .inl f)) => if t = 2 ∧ (List.range n).all (fun i => fits .byte (.int (f i))) = true then kf (some (C.2.2.2.1 + h.length)) (h ++ [.inl (2, n, .inl f)]) else none
    | _ => none
def hcu (C : HC) (rec : Nat → Nat → List HV → List xj_E → HO) (d tag : Nat) (r : Option Nat) (as : List HV) (h : List xj_E) : HO := match r with
  | none => none
  | some a => match xk_lkc C.2.2.2.1 [] C.2.2.2.2 h a with
    | none => none
    | some _ => hcl rec d tag (.inr (.inr (some a)) :: as) h
def hgiv (C : HC) (F : List Nat × Nat) (r : Option Nat) (h : List xj_E) (kf : List xj_E → HO) : HO := match r with
  | none => none
  | some a => hpf C F (some a) (.ref (C.2.2.2.1 + h.length)) (h ++ [(.inr (3, []) : xj_E)]) kf
theorem hsl_app {h t : List xj_E} : hsl (h ++ t) = hsl h + hsl t := by unfold hsl; rw [List.map_append, List.sum_append]
theorem hsl_set {h : List xj_E} {i : Nat} {x y : xj_E} (e : h[i]? = some y) (hz : hsz x = hsz y) : hsl (h.set i x) = hsl h := by
  unfold hsl
  rw [List.map_set]
  congr 1
  apply List.ext_getElem?
  intro j
  rw [List.getElem?_set]
  by_cases hij : i = j
  · subst hij
    rw [if_pos rfl, List.length_map, if_pos (List.getElem?_eq_some_iff.mp e).1, List.getElem?_map, e, hz]
    rfl
  · rw [if_neg hij]
