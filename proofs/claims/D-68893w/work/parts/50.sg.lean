/-! the second machine: states without references (fields and fixed arrays by ids, rows as lists) -/
set_option maxRecDepth 100000
abbrev SG : Type := (Nat → Nat → Int32) × (Nat → Nat → Int64) × (Nat → List Int32) × Nat
def sF (σ : SG) : Nat → Nat → Int32 := σ.1
def sJ (σ : SG) : Nat → Nat → Int64 := σ.2.1
def sW (σ : SG) : Nat → List Int32 := σ.2.2.1
def sX (σ : SG) : Nat := σ.2.2.2
def uF (σ : SG) (a i : Nat) (x : Int32) : SG := (fun b j => if b = a ∧ j = i then x else sF σ b j, σ.2)
def uJ (σ : SG) (a i : Nat) (x : Int64) : SG := (σ.1, fun b j => if b = a ∧ j = i then x else sJ σ b j, σ.2.2)
def uW (σ : SG) (r : Nat) (l : List Int32) : SG := (σ.1, σ.2.1, fun q => if q = r then l else sW σ q, σ.2.2.2)
def uX (σ : SG) : SG := (σ.1, σ.2.1, σ.2.2.1, sX σ + 1)
/-- the kind of a cell (99: none of these), its length, its references -/
def tgS (a : Nat) : Nat := (bif Nat.ble a 111 then (bif Nat.ble a 46 then (bif Nat.ble a 20 then (bif Nat.ble a 10 then (bif Nat.ble a 5 then (bif Nat.ble a 2 then (bif Nat.ble a 1 then (bif Nat.beq a 1 then 21 else 99) else (bif Nat.beq a 2 then 30 else 99)) else (bif Nat.ble a 3 then (bif Nat.beq a 3 then 30 else 99) else (bif Nat.ble a 4 then (bif Nat.beq a 4 then 30 else 99) else (bif Nat.beq a 5 then 30 else 99)))) else (bif Nat.ble a 7 then (bif Nat.ble a 6 then (bif Nat.beq a 6 then 30 else 99) else (bif Nat.beq a 7 then 30 else 99)) else (bif Nat.ble a 8 then (bif Nat.beq a 8 then 30 else 99) else (bif Nat.ble a 9 then (bif Nat.beq a 9 then 30 else 99) else (bif Nat.beq a 10 then 30 else 99))))) else (bif Nat.ble a 15 then (bif Nat.ble a 12 then (bif Nat.ble a 11 then (bif Nat.beq a 11 then 30 else 99) else (bif Nat.beq a 12 then 30 else 99)) else (bif Nat.ble a 13 then (bif Nat.beq a 13 then 30 else 99) else (bif Nat.ble a 14 then (bif Nat.beq a 14 then 30 else 99) else (bif Nat.beq a 15 then 30 else 99)))) else (bif Nat.ble a 17 then (bif Nat.ble a 16 then (bif Nat.beq a 16 then 30 else 99) else (bif Nat.beq a 17 then 30 else 99)) else (bif Nat.ble a 18 then (bif Nat.beq a 18 then 30 else 99) else (bif Nat.ble a 19 then (bif Nat.beq a 19 then 30 else 99) else (bif Nat.beq a 20 then 30 else 99)))))) else (bif Nat.ble a 30 then (bif Nat.ble a 25 then (bif Nat.ble a 22 then (bif Nat.ble a 21 then (bif Nat.beq a 21 then 30 else 99) else (bif Nat.beq a 22 then 30 else 99)) else (bif Nat.ble a 23 then (bif Nat.beq a 23 then 30 else 99) else (bif Nat.ble a 24 then (bif Nat.beq a 24 then 30 else 99) else (bif Nat.beq a 25 then 30 else 99)))) else (bif Nat.ble a 27 then (bif Nat.ble a 26 then (bif Nat.beq a 26 then 1 else 99) else (bif Nat.beq a 27 then 2 else 99)) else (bif Nat.ble a 28 then (bif Nat.beq a 28 then 24 else 99) else (bif Nat.ble a 29 then (bif Nat.beq a 29 then 0 else 99) else (bif Nat.beq a 30 then 21 else 99))))) else (bif Nat.ble a 38 then (bif Nat.ble a 32 then (bif Nat.ble a 31 then (bif Nat.beq a 31 then 3 else 99) else (bif Nat.beq a 32 then 4 else 99)) else (bif Nat.ble a 34 then (bif Nat.beq a 34 then 4 else 99) else (bif Nat.ble a 36 then (bif Nat.beq a 36 then 4 else 99) else (bif Nat.beq a 38 then 4 else 99)))) else (bif Nat.ble a 41 then (bif Nat.ble a 40 then (bif Nat.beq a 40 then 5 else 99) else (bif Nat.beq a 41 then 6 else 99)) else (bif Nat.ble a 42 then (bif Nat.beq a 42 then 4 else 99) else (bif Nat.ble a 44 then (bif Nat.beq a 44 then 4 else 99) else (bif Nat.beq a 46 then 4 else 99))))))) else (bif Nat.ble a 79 then (bif Nat.ble a 60 then (bif Nat.ble a 55 then (bif Nat.ble a 50 then (bif Nat.ble a 48 then (bif Nat.beq a 48 then 4 else 99) else (bif Nat.beq a 50 then 4 else 99)) else (bif Nat.ble a 52 then (bif Nat.beq a 52 then 4 else 99) else (bif Nat.ble a 54 then (bif Nat.beq a 54 then 21 else 99) else (bif Nat.beq a 55 then 7 else 99)))) else (bif Nat.ble a 57 then (bif Nat.ble a 56 then (bif Nat.beq a 56 then 20 else 99) else (bif Nat.beq a 57 then 20 else 99)) else (bif Nat.ble a 58 then (bif Nat.beq a 58 then 20 else 99) else (bif Nat.ble a 59 then (bif Nat.beq a 59 then 20 else 99) else (bif Nat.beq a 60 then 8 else 99))))) else (bif Nat.ble a 69 then (bif Nat.ble a 63 then (bif Nat.ble a 61 then (bif Nat.beq a 61 then 4 else 99) else (bif Nat.beq a 63 then 4 else 99)) else (bif Nat.ble a 65 then (bif Nat.beq a 65 then 4 else 99) else (bif Nat.ble a 67 then (bif Nat.beq a 67 then 4 else 99) else (bif Nat.beq a 69 then 4 else 99)))) else (bif Nat.ble a 73 then (bif Nat.ble a 71 then (bif Nat.beq a 71 then 4 else 99) else (bif Nat.beq a 73 then 4 else 99)) else (bif Nat.ble a 75 then (bif Nat.beq a 75 then 4 else 99) else (bif Nat.ble a 77 then (bif Nat.beq a 77 then 4 else 99) else (bif Nat.beq a 79 then 4 else 99)))))) else (bif Nat.ble a 96 then (bif Nat.ble a 88 then (bif Nat.ble a 83 then (bif Nat.ble a 81 then (bif Nat.beq a 81 then 4 else 99) else (bif Nat.beq a 83 then 4 else 99)) else (bif Nat.ble a 85 then (bif Nat.beq a 85 then 20 else 99) else (bif Nat.ble a 86 then (bif Nat.beq a 86 then 4 else 99) else (bif Nat.beq a 88 then 4 else 99)))) else (bif Nat.ble a 92 then (bif Nat.ble a 90 then (bif Nat.beq a 90 then 4 else 99) else (bif Nat.beq a 92 then 5 else 99)) else (bif Nat.ble a 93 then (bif Nat.beq a 93 then 6 else 99) else (bif Nat.ble a 94 then (bif Nat.beq a 94 then 4 else 99) else (bif Nat.beq a 96 then 4 else 99))))) else (bif Nat.ble a 106 then (bif Nat.ble a 100 then (bif Nat.ble a 98 then (bif Nat.beq a 98 then 4 else 99) else (bif Nat.beq a 100 then 4 else 99)) else (bif Nat.ble a 102 then (bif Nat.beq a 102 then 4 else 99) else (bif Nat.ble a 104 then (bif Nat.beq a 104 then 4 else 99) else (bif Nat.beq a 106 then 21 else 99)))) else (bif Nat.ble a 108 then (bif Nat.ble a 107 then (bif Nat.beq a 107 then 7 else 99) else (bif Nat.beq a 108 then 20 else 99)) else (bif Nat.ble a 109 then (bif Nat.beq a 109 then 20 else 99) else (bif Nat.ble a 110 then (bif Nat.beq a 110 then 20 else 99) else (bif Nat.beq a 111 then 20 else 99)))))))) else (bif Nat.ble a 166 then (bif Nat.ble a 146 then (bif Nat.ble a 129 then (bif Nat.ble a 119 then (bif Nat.ble a 113 then (bif Nat.ble a 112 then (bif Nat.beq a 112 then 8 else 99) else (bif Nat.beq a 113 then 4 else 99)) else (bif Nat.ble a 115 then (bif Nat.beq a 115 then 4 else 99) else (bif Nat.ble a 117 then (bif Nat.beq a 117 then 4 else 99) else (bif Nat.beq a 119 then 4 else 99)))) else (bif Nat.ble a 123 then (bif Nat.ble a 121 then (bif Nat.beq a 121 then 4 else 99) else (bif Nat.beq a 123 then 4 else 99)) else (bif Nat.ble a 125 then (bif Nat.beq a 125 then 4 else 99) else (bif Nat.ble a 127 then (bif Nat.beq a 127 then 4 else 99) else (bif Nat.beq a 129 then 4 else 99))))) else (bif Nat.ble a 138 then (bif Nat.ble a 133 then (bif Nat.ble a 131 then (bif Nat.beq a 131 then 4 else 99) else (bif Nat.beq a 133 then 4 else 99)) else (bif Nat.ble a 135 then (bif Nat.beq a 135 then 4 else 99) else (bif Nat.ble a 137 then (bif Nat.beq a 137 then 20 else 99) else (bif Nat.beq a 138 then 4 else 99)))) else (bif Nat.ble a 142 then (bif Nat.ble a 140 then (bif Nat.beq a 140 then 4 else 99) else (bif Nat.beq a 142 then 4 else 99)) else (bif Nat.ble a 144 then (bif Nat.beq a 144 then 9 else 99) else (bif Nat.ble a 145 then (bif Nat.beq a 145 then 21 else 99) else (bif Nat.beq a 146 then 10 else 99)))))) else (bif Nat.ble a 156 then (bif Nat.ble a 151 then (bif Nat.ble a 148 then (bif Nat.ble a 147 then (bif Nat.beq a 147 then 21 else 99) else (bif Nat.beq a 148 then 20 else 99)) else (bif Nat.ble a 149 then (bif Nat.beq a 149 then 20 else 99) else (bif Nat.ble a 150 then (bif Nat.beq a 150 then 20 else 99) else (bif Nat.beq a 151 then 20 else 99)))) else (bif Nat.ble a 153 then (bif Nat.ble a 152 then (bif Nat.beq a 152 then 20 else 99) else (bif Nat.beq a 153 then 20 else 99)) else (bif Nat.ble a 154 then (bif Nat.beq a 154 then 20 else 99) else (bif Nat.ble a 155 then (bif Nat.beq a 155 then 20 else 99) else (bif Nat.beq a 156 then 20 else 99))))) else (bif Nat.ble a 161 then (bif Nat.ble a 158 then (bif Nat.ble a 157 then (bif Nat.beq a 157 then 20 else 99) else (bif Nat.beq a 158 then 20 else 99)) else (bif Nat.ble a 159 then (bif Nat.beq a 159 then 22 else 99) else (bif Nat.ble a 160 then (bif Nat.beq a 160 then 20 else 99) else (bif Nat.beq a 161 then 20 else 99)))) else (bif Nat.ble a 163 then (bif Nat.ble a 162 then (bif Nat.beq a 162 then 20 else 99) else (bif Nat.beq a 163 then 20 else 99)) else (bif Nat.ble a 164 then (bif Nat.beq a 164 then 20 else 99) else (bif Nat.ble a 165 then (bif Nat.beq a 165 then 20 else 99) else (bif Nat.beq a 166 then 20 else 99))))))) else (bif Nat.ble a 186 then (bif Nat.ble a 176 then (bif Nat.ble a 171 then (bif Nat.ble a 168 then (bif Nat.ble a 167 then (bif Nat.beq a 167 then 20 else 99) else (bif Nat.beq a 168 then 20 else 99)) else (bif Nat.ble a 169 then (bif Nat.beq a 169 then 20 else 99) else (bif Nat.ble a 170 then (bif Nat.beq a 170 then 20 else 99) else (bif Nat.beq a 171 then 20 else 99)))) else (bif Nat.ble a 173 then (bif Nat.ble a 172 then (bif Nat.beq a 172 then 20 else 99) else (bif Nat.beq a 173 then 20 else 99)) else (bif Nat.ble a 174 then (bif Nat.beq a 174 then 20 else 99) else (bif Nat.ble a 175 then (bif Nat.beq a 175 then 22 else 99) else (bif Nat.beq a 176 then 22 else 99))))) else (bif Nat.ble a 181 then (bif Nat.ble a 178 then (bif Nat.ble a 177 then (bif Nat.beq a 177 then 22 else 99) else (bif Nat.beq a 178 then 22 else 99)) else (bif Nat.ble a 179 then (bif Nat.beq a 179 then 22 else 99) else (bif Nat.ble a 180 then (bif Nat.beq a 180 then 20 else 99) else (bif Nat.beq a 181 then 20 else 99)))) else (bif Nat.ble a 183 then (bif Nat.ble a 182 then (bif Nat.beq a 182 then 20 else 99) else (bif Nat.beq a 183 then 21 else 99)) else (bif Nat.ble a 184 then (bif Nat.beq a 184 then 20 else 99) else (bif Nat.ble a 185 then (bif Nat.beq a 185 then 20 else 99) else (bif Nat.beq a 186 then 20 else 99)))))) else (bif Nat.ble a 196 then (bif Nat.ble a 191 then (bif Nat.ble a 188 then (bif Nat.ble a 187 then (bif Nat.beq a 187 then 20 else 99) else (bif Nat.beq a 188 then 20 else 99)) else (bif Nat.ble a 189 then (bif Nat.beq a 189 then 20 else 99) else (bif Nat.ble a 190 then (bif Nat.beq a 190 then 20 else 99) else (bif Nat.beq a 191 then 20 else 99)))) else (bif Nat.ble a 193 then (bif Nat.ble a 192 then (bif Nat.beq a 192 then 20 else 99) else (bif Nat.beq a 193 then 20 else 99)) else (bif Nat.ble a 194 then (bif Nat.beq a 194 then 20 else 99) else (bif Nat.ble a 195 then (bif Nat.beq a 195 then 20 else 99) else (bif Nat.beq a 196 then 20 else 99))))) else (bif Nat.ble a 201 then (bif Nat.ble a 198 then (bif Nat.ble a 197 then (bif Nat.beq a 197 then 23 else 99) else (bif Nat.beq a 198 then 23 else 99)) else (bif Nat.ble a 199 then (bif Nat.beq a 199 then 20 else 99) else (bif Nat.ble a 200 then (bif Nat.beq a 200 then 22 else 99) else (bif Nat.beq a 201 then 22 else 99)))) else (bif Nat.ble a 203 then (bif Nat.ble a 202 then (bif Nat.beq a 202 then 22 else 99) else (bif Nat.beq a 203 then 22 else 99)) else (bif Nat.ble a 204 then (bif Nat.beq a 204 then 22 else 99) else (bif Nat.ble a 205 then (bif Nat.beq a 205 then 21 else 99) else (bif Nat.beq a 206 then 22 else 99)))))))))
def lnS (a : Nat) : Nat := (bif Nat.ble a 168 then (bif Nat.ble a 149 then (bif Nat.ble a 106 then (bif Nat.ble a 56 then (bif Nat.ble a 30 then (bif Nat.ble a 1 then (bif Nat.beq a 1 then 113 else 0) else (bif Nat.beq a 30 then 65536 else 0)) else (bif Nat.ble a 54 then (bif Nat.beq a 54 then 65536 else 0) else (bif Nat.beq a 56 then 24000 else 0))) else (bif Nat.ble a 58 then (bif Nat.ble a 57 then (bif Nat.beq a 57 then 24000 else 0) else (bif Nat.beq a 58 then 24000 else 0)) else (bif Nat.ble a 59 then (bif Nat.beq a 59 then 32768 else 0) else (bif Nat.ble a 85 then (bif Nat.beq a 85 then 1024 else 0) else (bif Nat.beq a 106 then 65536 else 0))))) else (bif Nat.ble a 111 then (bif Nat.ble a 109 then (bif Nat.ble a 108 then (bif Nat.beq a 108 then 24000 else 0) else (bif Nat.beq a 109 then 24000 else 0)) else (bif Nat.ble a 110 then (bif Nat.beq a 110 then 24000 else 0) else (bif Nat.beq a 111 then 32768 else 0))) else (bif Nat.ble a 145 then (bif Nat.ble a 137 then (bif Nat.beq a 137 then 1024 else 0) else (bif Nat.beq a 145 then 24000 else 0)) else (bif Nat.ble a 147 then (bif Nat.beq a 147 then 65536 else 0) else (bif Nat.ble a 148 then (bif Nat.beq a 148 then 65540 else 0) else (bif Nat.beq a 149 then 65540 else 0)))))) else (bif Nat.ble a 158 then (bif Nat.ble a 153 then (bif Nat.ble a 151 then (bif Nat.ble a 150 then (bif Nat.beq a 150 then 65540 else 0) else (bif Nat.beq a 151 then 3600 else 0)) else (bif Nat.ble a 152 then (bif Nat.beq a 152 then 3601 else 0) else (bif Nat.beq a 153 then 3601 else 0))) else (bif Nat.ble a 155 then (bif Nat.ble a 154 then (bif Nat.beq a 154 then 3601 else 0) else (bif Nat.beq a 155 then 3601 else 0)) else (bif Nat.ble a 156 then (bif Nat.beq a 156 then 11000 else 0) else (bif Nat.ble a 157 then (bif Nat.beq a 157 then 11000 else 0) else (bif Nat.beq a 158 then 11000 else 0))))) else (bif Nat.ble a 163 then (bif Nat.ble a 160 then (bif Nat.ble a 159 then (bif Nat.beq a 159 then 11000 else 0) else (bif Nat.beq a 160 then 11000 else 0)) else (bif Nat.ble a 161 then (bif Nat.beq a 161 then 11000 else 0) else (bif Nat.ble a 162 then (bif Nat.beq a 162 then 11000 else 0) else (bif Nat.beq a 163 then 11000 else 0)))) else (bif Nat.ble a 165 then (bif Nat.ble a 164 then (bif Nat.beq a 164 then 11000 else 0) else (bif Nat.beq a 165 then 11000 else 0)) else (bif Nat.ble a 166 then (bif Nat.beq a 166 then 11001 else 0) else (bif Nat.ble a 167 then (bif Nat.beq a 167 then 11000 else 0) else (bif Nat.beq a 168 then 11000 else 0))))))) else (bif Nat.ble a 187 then (bif Nat.ble a 177 then (bif Nat.ble a 172 then (bif Nat.ble a 170 then (bif Nat.ble a 169 then (bif Nat.beq a 169 then 11000 else 0) else (bif Nat.beq a 170 then 6600 else 0)) else (bif Nat.ble a 171 then (bif Nat.beq a 171 then 6600 else 0) else (bif Nat.beq a 172 then 6600 else 0))) else (bif Nat.ble a 174 then (bif Nat.ble a 173 then (bif Nat.beq a 173 then 6600 else 0) else (bif Nat.beq a 174 then 4096 else 0)) else (bif Nat.ble a 175 then (bif Nat.beq a 175 then 256 else 0) else (bif Nat.ble a 176 then (bif Nat.beq a 176 then 3600 else 0) else (bif Nat.beq a 177 then 3600 else 0))))) else (bif Nat.ble a 182 then (bif Nat.ble a 179 then (bif Nat.ble a 178 then (bif Nat.beq a 178 then 3600 else 0) else (bif Nat.beq a 179 then 3600 else 0)) else (bif Nat.ble a 180 then (bif Nat.beq a 180 then 4096 else 0) else (bif Nat.ble a 181 then (bif Nat.beq a 181 then 4096 else 0) else (bif Nat.beq a 182 then 4096 else 0)))) else (bif Nat.ble a 184 then (bif Nat.ble a 183 then (bif Nat.beq a 183 then 65536 else 0) else (bif Nat.beq a 184 then 260 else 0)) else (bif Nat.ble a 185 then (bif Nat.beq a 185 then 260 else 0) else (bif Nat.ble a 186 then (bif Nat.beq a 186 then 260 else 0) else (bif Nat.beq a 187 then 260 else 0)))))) else (bif Nat.ble a 196 then (bif Nat.ble a 191 then (bif Nat.ble a 189 then (bif Nat.ble a 188 then (bif Nat.beq a 188 then 260 else 0) else (bif Nat.beq a 189 then 260 else 0)) else (bif Nat.ble a 190 then (bif Nat.beq a 190 then 1100 else 0) else (bif Nat.beq a 191 then 1100 else 0))) else (bif Nat.ble a 193 then (bif Nat.ble a 192 then (bif Nat.beq a 192 then 1100 else 0) else (bif Nat.beq a 193 then 1100 else 0)) else (bif Nat.ble a 194 then (bif Nat.beq a 194 then 1100 else 0) else (bif Nat.ble a 195 then (bif Nat.beq a 195 then 1100 else 0) else (bif Nat.beq a 196 then 1100 else 0))))) else (bif Nat.ble a 201 then (bif Nat.ble a 198 then (bif Nat.ble a 197 then (bif Nat.beq a 197 then 1100 else 0) else (bif Nat.beq a 198 then 1100 else 0)) else (bif Nat.ble a 199 then (bif Nat.beq a 199 then 1100 else 0) else (bif Nat.ble a 200 then (bif Nat.beq a 200 then 1100 else 0) else (bif Nat.beq a 201 then 1100 else 0)))) else (bif Nat.ble a 203 then (bif Nat.ble a 202 then (bif Nat.beq a 202 then 1100 else 0) else (bif Nat.beq a 203 then 1100 else 0)) else (bif Nat.ble a 204 then (bif Nat.beq a 204 then 4096 else 0) else (bif Nat.ble a 205 then (bif Nat.beq a 205 then 65536 else 0) else (bif Nat.beq a 206 then 1 else 0))))))))
def rfT (n : Nat) : Option Nat := (bif Nat.ble n 9304 then (bif Nat.ble n 4102 then (bif Nat.ble n 4003 then (bif Nat.ble n 2702 then (bif Nat.ble n 2603 then (bif Nat.ble n 2601 then (bif Nat.ble n 2600 then (bif Nat.beq n 2600 then some 27 else none) else (bif Nat.beq n 2601 then some 31 else none)) else (bif Nat.ble n 2602 then (bif Nat.beq n 2602 then some 40 else none) else (bif Nat.beq n 2603 then some 92 else none))) else (bif Nat.ble n 2700 then (bif Nat.ble n 2605 then (bif Nat.beq n 2605 then some 144 else none) else (bif Nat.beq n 2700 then some 28 else none)) else (bif Nat.ble n 2701 then (bif Nat.beq n 2701 then some 29 else none) else (bif Nat.beq n 2702 then some 30 else none)))) else (bif Nat.ble n 3107 then (bif Nat.ble n 3105 then (bif Nat.ble n 3100 then (bif Nat.beq n 3100 then some 27 else none) else (bif Nat.beq n 3105 then some 32 else none)) else (bif Nat.ble n 3106 then (bif Nat.beq n 3106 then some 34 else none) else (bif Nat.beq n 3107 then some 36 else none))) else (bif Nat.ble n 4000 then (bif Nat.ble n 3108 then (bif Nat.beq n 3108 then some 38 else none) else (bif Nat.beq n 4000 then some 27 else none)) else (bif Nat.ble n 4001 then (bif Nat.beq n 4001 then some 41 else none) else (bif Nat.ble n 4002 then (bif Nat.beq n 4002 then some 55 else none) else (bif Nat.beq n 4003 then some 60 else none)))))) else (bif Nat.ble n 4011 then (bif Nat.ble n 4007 then (bif Nat.ble n 4005 then (bif Nat.ble n 4004 then (bif Nat.beq n 4004 then some 65 else none) else (bif Nat.beq n 4005 then some 67 else none)) else (bif Nat.ble n 4006 then (bif Nat.beq n 4006 then some 69 else none) else (bif Nat.beq n 4007 then some 71 else none))) else (bif Nat.ble n 4009 then (bif Nat.ble n 4008 then (bif Nat.beq n 4008 then some 73 else none) else (bif Nat.beq n 4009 then some 75 else none)) else (bif Nat.ble n 4010 then (bif Nat.beq n 4010 then some 77 else none) else (bif Nat.beq n 4011 then some 79 else none)))) else (bif Nat.ble n 4018 then (bif Nat.ble n 4014 then (bif Nat.ble n 4012 then (bif Nat.beq n 4012 then some 81 else none) else (bif Nat.beq n 4014 then some 83 else none)) else (bif Nat.ble n 4017 then (bif Nat.beq n 4017 then some 85 else none) else (bif Nat.beq n 4018 then some 86 else none))) else (bif Nat.ble n 4020 then (bif Nat.ble n 4019 then (bif Nat.beq n 4019 then some 88 else none) else (bif Nat.beq n 4020 then some 90 else none)) else (bif Nat.ble n 4100 then (bif Nat.beq n 4100 then some 42 else none) else (bif Nat.ble n 4101 then (bif Nat.beq n 4101 then some 44 else none) else (bif Nat.beq n 4102 then some 46 else none))))))) else (bif Nat.ble n 9205 then (bif Nat.ble n 5503 then (bif Nat.ble n 4106 then (bif Nat.ble n 4104 then (bif Nat.ble n 4103 then (bif Nat.beq n 4103 then some 48 else none) else (bif Nat.beq n 4104 then some 50 else none)) else (bif Nat.ble n 4105 then (bif Nat.beq n 4105 then some 52 else none) else (bif Nat.beq n 4106 then some 54 else none))) else (bif Nat.ble n 5501 then (bif Nat.ble n 5500 then (bif Nat.beq n 5500 then some 56 else none) else (bif Nat.beq n 5501 then some 57 else none)) else (bif Nat.ble n 5502 then (bif Nat.beq n 5502 then some 58 else none) else (bif Nat.beq n 5503 then some 59 else none)))) else (bif Nat.ble n 9200 then (bif Nat.ble n 6001 then (bif Nat.ble n 6000 then (bif Nat.beq n 6000 then some 55 else none) else (bif Nat.beq n 6001 then some 61 else none)) else (bif Nat.ble n 6002 then (bif Nat.beq n 6002 then some 63 else none) else (bif Nat.beq n 9200 then some 27 else none))) else (bif Nat.ble n 9202 then (bif Nat.ble n 9201 then (bif Nat.beq n 9201 then some 93 else none) else (bif Nat.beq n 9202 then some 107 else none)) else (bif Nat.ble n 9203 then (bif Nat.beq n 9203 then some 112 else none) else (bif Nat.ble n 9204 then (bif Nat.beq n 9204 then some 117 else none) else (bif Nat.beq n 9205 then some 119 else none)))))) else (bif Nat.ble n 9214 then (bif Nat.ble n 9209 then (bif Nat.ble n 9207 then (bif Nat.ble n 9206 then (bif Nat.beq n 9206 then some 121 else none) else (bif Nat.beq n 9207 then some 123 else none)) else (bif Nat.ble n 9208 then (bif Nat.beq n 9208 then some 125 else none) else (bif Nat.beq n 9209 then some 127 else none))) else (bif Nat.ble n 9211 then (bif Nat.ble n 9210 then (bif Nat.beq n 9210 then some 129 else none) else (bif Nat.beq n 9211 then some 131 else none)) else (bif Nat.ble n 9212 then (bif Nat.beq n 9212 then some 133 else none) else (bif Nat.beq n 9214 then some 135 else none)))) else (bif Nat.ble n 9220 then (bif Nat.ble n 9218 then (bif Nat.ble n 9217 then (bif Nat.beq n 9217 then some 137 else none) else (bif Nat.beq n 9218 then some 138 else none)) else (bif Nat.ble n 9219 then (bif Nat.beq n 9219 then some 140 else none) else (bif Nat.beq n 9220 then some 142 else none))) else (bif Nat.ble n 9301 then (bif Nat.ble n 9300 then (bif Nat.beq n 9300 then some 94 else none) else (bif Nat.beq n 9301 then some 96 else none)) else (bif Nat.ble n 9302 then (bif Nat.beq n 9302 then some 98 else none) else (bif Nat.ble n 9303 then (bif Nat.beq n 9303 then some 100 else none) else (bif Nat.beq n 9304 then some 102 else none)))))))) else (bif Nat.ble n 14636 then (bif Nat.ble n 14615 then (bif Nat.ble n 11201 then (bif Nat.ble n 10701 then (bif Nat.ble n 9306 then (bif Nat.ble n 9305 then (bif Nat.beq n 9305 then some 104 else none) else (bif Nat.beq n 9306 then some 106 else none)) else (bif Nat.ble n 10700 then (bif Nat.beq n 10700 then some 108 else none) else (bif Nat.beq n 10701 then some 109 else none))) else (bif Nat.ble n 10703 then (bif Nat.ble n 10702 then (bif Nat.beq n 10702 then some 110 else none) else (bif Nat.beq n 10703 then some 111 else none)) else (bif Nat.ble n 11200 then (bif Nat.beq n 11200 then some 107 else none) else (bif Nat.beq n 11201 then some 113 else none)))) else (bif Nat.ble n 14604 then (bif Nat.ble n 14400 then (bif Nat.ble n 11202 then (bif Nat.beq n 11202 then some 115 else none) else (bif Nat.beq n 14400 then some 145 else none)) else (bif Nat.ble n 14601 then (bif Nat.beq n 14601 then some 147 else none) else (bif Nat.beq n 14604 then some 148 else none))) else (bif Nat.ble n 14606 then (bif Nat.ble n 14605 then (bif Nat.beq n 14605 then some 149 else none) else (bif Nat.beq n 14606 then some 150 else none)) else (bif Nat.ble n 14613 then (bif Nat.beq n 14613 then some 151 else none) else (bif Nat.ble n 14614 then (bif Nat.beq n 14614 then some 152 else none) else (bif Nat.beq n 14615 then some 153 else none)))))) else (bif Nat.ble n 14624 then (bif Nat.ble n 14620 then (bif Nat.ble n 14617 then (bif Nat.ble n 14616 then (bif Nat.beq n 14616 then some 154 else none) else (bif Nat.beq n 14617 then some 155 else none)) else (bif Nat.ble n 14619 then (bif Nat.beq n 14619 then some 156 else none) else (bif Nat.beq n 14620 then some 157 else none))) else (bif Nat.ble n 14622 then (bif Nat.ble n 14621 then (bif Nat.beq n 14621 then some 158 else none) else (bif Nat.beq n 14622 then some 159 else none)) else (bif Nat.ble n 14623 then (bif Nat.beq n 14623 then some 160 else none) else (bif Nat.beq n 14624 then some 161 else none)))) else (bif Nat.ble n 14629 then (bif Nat.ble n 14626 then (bif Nat.ble n 14625 then (bif Nat.beq n 14625 then some 162 else none) else (bif Nat.beq n 14626 then some 163 else none)) else (bif Nat.ble n 14628 then (bif Nat.beq n 14628 then some 164 else none) else (bif Nat.beq n 14629 then some 165 else none))) else (bif Nat.ble n 14632 then (bif Nat.ble n 14630 then (bif Nat.beq n 14630 then some 166 else none) else (bif Nat.beq n 14632 then some 167 else none)) else (bif Nat.ble n 14633 then (bif Nat.beq n 14633 then some 168 else none) else (bif Nat.ble n 14634 then (bif Nat.beq n 14634 then some 169 else none) else (bif Nat.beq n 14636 then some 170 else none))))))) else (bif Nat.ble n 14660 then (bif Nat.ble n 14647 then (bif Nat.ble n 14641 then (bif Nat.ble n 14639 then (bif Nat.ble n 14637 then (bif Nat.beq n 14637 then some 171 else none) else (bif Nat.beq n 14639 then some 172 else none)) else (bif Nat.ble n 14640 then (bif Nat.beq n 14640 then some 173 else none) else (bif Nat.beq n 14641 then some 174 else none))) else (bif Nat.ble n 14645 then (bif Nat.ble n 14643 then (bif Nat.beq n 14643 then some 175 else none) else (bif Nat.beq n 14645 then some 176 else none)) else (bif Nat.ble n 14646 then (bif Nat.beq n 14646 then some 177 else none) else (bif Nat.beq n 14647 then some 178 else none)))) else (bif Nat.ble n 14652 then (bif Nat.ble n 14649 then (bif Nat.ble n 14648 then (bif Nat.beq n 14648 then some 179 else none) else (bif Nat.beq n 14649 then some 180 else none)) else (bif Nat.ble n 14650 then (bif Nat.beq n 14650 then some 181 else none) else (bif Nat.beq n 14652 then some 182 else none))) else (bif Nat.ble n 14657 then (bif Nat.ble n 14655 then (bif Nat.beq n 14655 then some 183 else none) else (bif Nat.beq n 14657 then some 184 else none)) else (bif Nat.ble n 14658 then (bif Nat.beq n 14658 then some 185 else none) else (bif Nat.ble n 14659 then (bif Nat.beq n 14659 then some 186 else none) else (bif Nat.beq n 14660 then some 187 else none)))))) else (bif Nat.ble n 14670 then (bif Nat.ble n 14665 then (bif Nat.ble n 14662 then (bif Nat.ble n 14661 then (bif Nat.beq n 14661 then some 188 else none) else (bif Nat.beq n 14662 then some 189 else none)) else (bif Nat.ble n 14664 then (bif Nat.beq n 14664 then some 190 else none) else (bif Nat.beq n 14665 then some 191 else none))) else (bif Nat.ble n 14667 then (bif Nat.ble n 14666 then (bif Nat.beq n 14666 then some 192 else none) else (bif Nat.beq n 14667 then some 193 else none)) else (bif Nat.ble n 14668 then (bif Nat.beq n 14668 then some 194 else none) else (bif Nat.ble n 14669 then (bif Nat.beq n 14669 then some 195 else none) else (bif Nat.beq n 14670 then some 196 else none))))) else (bif Nat.ble n 14680 then (bif Nat.ble n 14673 then (bif Nat.ble n 14672 then (bif Nat.beq n 14672 then some 197 else none) else (bif Nat.beq n 14673 then some 198 else none)) else (bif Nat.ble n 14674 then (bif Nat.beq n 14674 then some 199 else none) else (bif Nat.beq n 14680 then some 200 else none))) else (bif Nat.ble n 14682 then (bif Nat.ble n 14681 then (bif Nat.beq n 14681 then some 201 else none) else (bif Nat.beq n 14682 then some 202 else none)) else (bif Nat.ble n 14683 then (bif Nat.beq n 14683 then some 203 else none) else (bif Nat.ble n 14684 then (bif Nat.beq n 14684 then some 204 else none) else (bif Nat.beq n 14690 then some 205 else none)))))))))
def rfS (b : Bool) (a f : Nat) : Option Nat := bif Nat.beq a 31 && Nat.beq f 1 then (bif b then some 93 else none) else rfT (100 * a + f)
def rowIds : List Nat := [32, 34, 36, 38, 42, 44, 46, 48, 50, 52, 61, 63, 65, 67, 69, 71, 73, 75, 77, 79, 81, 83, 86, 88, 90, 94, 96, 98, 100, 102, 104, 113, 115, 117, 119, 121, 123, 125, 127, 129, 131, 133, 135, 138, 140, 142]
/-- a row's limit: 64 * 2 ^ this -/
def emS (r : Nat) : Nat := (bif Nat.ble r 86 then (bif Nat.ble r 61 then (bif Nat.ble r 42 then (bif Nat.ble r 34 then (bif Nat.ble r 32 then (bif Nat.beq r 32 then 11 else 0) else (bif Nat.beq r 34 then 11 else 0)) else (bif Nat.ble r 36 then (bif Nat.beq r 36 then 11 else 0) else (bif Nat.ble r 38 then (bif Nat.beq r 38 then 5 else 0) else (bif Nat.beq r 42 then 8 else 0)))) else (bif Nat.ble r 48 then (bif Nat.ble r 44 then (bif Nat.beq r 44 then 8 else 0) else (bif Nat.ble r 46 then (bif Nat.beq r 46 then 8 else 0) else (bif Nat.beq r 48 then 11 else 0))) else (bif Nat.ble r 50 then (bif Nat.beq r 50 then 8 else 0) else (bif Nat.ble r 52 then (bif Nat.beq r 52 then 8 else 0) else (bif Nat.beq r 61 then 11 else 0))))) else (bif Nat.ble r 73 then (bif Nat.ble r 67 then (bif Nat.ble r 63 then (bif Nat.beq r 63 then 5 else 0) else (bif Nat.ble r 65 then (bif Nat.beq r 65 then 5 else 0) else (bif Nat.beq r 67 then 6 else 0))) else (bif Nat.ble r 69 then (bif Nat.beq r 69 then 10 else 0) else (bif Nat.ble r 71 then (bif Nat.beq r 71 then 12 else 0) else (bif Nat.beq r 73 then 5 else 0)))) else (bif Nat.ble r 79 then (bif Nat.ble r 75 then (bif Nat.beq r 75 then 8 else 0) else (bif Nat.ble r 77 then (bif Nat.beq r 77 then 0 else 0) else (bif Nat.beq r 79 then 0 else 0))) else (bif Nat.ble r 81 then (bif Nat.beq r 81 then 0 else 0) else (bif Nat.ble r 83 then (bif Nat.beq r 83 then 5 else 0) else (bif Nat.beq r 86 then 6 else 0)))))) else (bif Nat.ble r 117 then (bif Nat.ble r 98 then (bif Nat.ble r 90 then (bif Nat.ble r 88 then (bif Nat.beq r 88 then 12 else 0) else (bif Nat.beq r 90 then 7 else 0)) else (bif Nat.ble r 94 then (bif Nat.beq r 94 then 8 else 0) else (bif Nat.ble r 96 then (bif Nat.beq r 96 then 8 else 0) else (bif Nat.beq r 98 then 8 else 0)))) else (bif Nat.ble r 104 then (bif Nat.ble r 100 then (bif Nat.beq r 100 then 11 else 0) else (bif Nat.ble r 102 then (bif Nat.beq r 102 then 8 else 0) else (bif Nat.beq r 104 then 8 else 0))) else (bif Nat.ble r 113 then (bif Nat.beq r 113 then 11 else 0) else (bif Nat.ble r 115 then (bif Nat.beq r 115 then 5 else 0) else (bif Nat.beq r 117 then 5 else 0))))) else (bif Nat.ble r 129 then (bif Nat.ble r 123 then (bif Nat.ble r 119 then (bif Nat.beq r 119 then 6 else 0) else (bif Nat.ble r 121 then (bif Nat.beq r 121 then 10 else 0) else (bif Nat.beq r 123 then 12 else 0))) else (bif Nat.ble r 125 then (bif Nat.beq r 125 then 5 else 0) else (bif Nat.ble r 127 then (bif Nat.beq r 127 then 8 else 0) else (bif Nat.beq r 129 then 0 else 0)))) else (bif Nat.ble r 135 then (bif Nat.ble r 131 then (bif Nat.beq r 131 then 0 else 0) else (bif Nat.ble r 133 then (bif Nat.beq r 133 then 0 else 0) else (bif Nat.beq r 135 then 5 else 0))) else (bif Nat.ble r 138 then (bif Nat.beq r 138 then 6 else 0) else (bif Nat.ble r 140 then (bif Nat.beq r 140 then 12 else 0) else (bif Nat.beq r 142 then 7 else 0)))))))
def S0S : Nat := 1076242
def limS (r : Nat) : Nat := 64 * 2 ^ emS r
abbrev XS : Type := Option ((Nat × LO × List Value × SG) ⊕ (OU × SG) ⊕ (Nat × List Value × Nat × LO × List Value × SG))
abbrev RSG : Type := Option (OU × SG)
def nxS (pc : Nat) (L : LO) (S : List Value) (σ : SG) : XS := some (.inl (pc, L, S, σ))
def finS (o : OU) (σ : SG) : XS := some (.inr (.inl (o, σ)))
def calS (k : Nat) (as : List Value) (pc : Nat) (L : LO) (S : List Value) (σ : SG) : XS := some (.inr (.inr (k, as, pc, L, S, σ)))
def gIS (σ : SG) (a c f : Nat) : Option Int32 := bif Nat.beq (tgS a) c then (bif Nat.beq c 4 then (bif Nat.beq f 1 then some (Int32.ofNat (sW σ a).length) else none) else some (sF σ a f)) else none
def gJS (σ : SG) (a c f : Nat) : Option Int64 := bif Nat.beq (tgS a) c then some (sJ σ a f) else none
def gRS (b : Bool) (a c f : Nat) : Option Nat := bif Nat.beq (tgS a) c then rfS b a f else none
def pSz (σ : SG) (r : Nat) (x : Int32) : Option SG := if 0 ≤ x ∧ x.toNatClampNeg ≤ (sW σ r).length then some (uW σ r ((sW σ r).take x.toNatClampNeg)) else none
def pIS (σ : SG) (a c f : Nat) (x : Int32) : Option SG := bif Nat.beq (tgS a) c then (bif Nat.beq c 4 then (bif Nat.beq f 1 then pSz σ a x else none) else some (uF σ a f x)) else none
def pZS (σ : SG) (a c f : Nat) (x : Int32) : Option SG := bif Nat.beq (tgS a) c && !Nat.beq c 4 then (if x = 0 ∨ x = 1 then some (uF σ a f x) else none) else none
def pJS (σ : SG) (a c f : Nat) (x : Int64) : Option SG := bif Nat.beq (tgS a) c then some (uJ σ a f x) else none
def aIS (σ : SG) (a : Nat) (i : Int32) : Option Int32 := bif Nat.beq (tgS a) 20 then (if ixN i (lnS a) = true then some (sF σ a i.toNatClampNeg) else none) else none
def aBS (σ : SG) (a : Nat) (i : Int32) : Option Int32 := bif Nat.beq a 1 then (if ixN i 113 = true then some (wdB.getD i.toNatClampNeg 0) else none) else bif Nat.beq (tgS a) 21 || Nat.beq (tgS a) 23 then (if ixN i (lnS a) = true then some (sF σ a i.toNatClampNeg) else none) else none
def aJS (σ : SG) (a : Nat) (i : Int32) : Option Int64 := bif Nat.beq (tgS a) 22 then (if ixN i (lnS a) = true then some (sJ σ a i.toNatClampNeg) else none) else none
def aRS (a : Nat) (i : Int32) : Option Nat := bif Nat.beq a 28 then (if ixN i 18 = true then some (7 + i.toNatClampNeg) else none) else none
def bIS (σ : SG) (a : Nat) (i x : Int32) : Option SG := bif Nat.beq (tgS a) 20 then (if ixN i (lnS a) = true then some (uF σ a i.toNatClampNeg x) else none) else none
def bBS (σ : SG) (a : Nat) (i x : Int32) : Option SG := bif Nat.beq a 1 then none else bif Nat.beq (tgS a) 21 then (if ixN i (lnS a) = true then some (uF σ a i.toNatClampNeg x.toInt8.toInt32) else none) else bif Nat.beq (tgS a) 23 then (if ixN i (lnS a) = true ∧ (x = 0 ∨ x = 1) then some (uF σ a i.toNatClampNeg x) else none) else none
def bJS (σ : SG) (a : Nat) (i : Int32) (x : Int64) : Option SG := bif Nat.beq (tgS a) 22 then (if ixN i (lnS a) = true then some (uJ σ a i.toNatClampNeg x) else none) else none
def aNS (a : Nat) : Option Int32 := bif Nat.ble 20 (tgS a) && Nat.ble (tgS a) 23 then some (Int32.ofNat (lnS a)) else bif Nat.beq a 28 then some 18 else none
def stLS (a : Nat) : Option Int32 := bif Nat.beq (tgS a) 30 then some (Int32.ofNat (stLn.getD (a - 2) 0)) else bif Nat.ble 2 a && Nat.ble a 25 then some (Int32.ofNat (stLn.getD (a - 2) 0)) else none
def stCS (a : Nat) (i : Int32) : Option Int32 := bif Nat.ble 2 a && Nat.ble a 25 then (if ixN i (stLn.getD (a - 2) 0) = true then some ((stBy.getD (a - 2) []).getD i.toNatClampNeg 0) else none) else none
/-- rows -/
def rAt (σ : SG) (r : Nat) (k : Int32) : Option Int32 := if 0 ≤ k then (sW σ r)[k.toNatClampNeg]? else none
def rAdd (σ : SG) (r : Nat) (v : Int32) : Option (Int32 × SG) := if (sW σ r).length < limS r then some (Int32.ofNat (sW σ r).length, uW σ r (sW σ r ++ [v])) else none
def rSet (σ : SG) (r : Nat) (k v : Int32) : Option SG := if 0 ≤ k ∧ k.toNatClampNeg < (sW σ r).length then some (uW σ r ((sW σ r).set k.toNatClampNeg v)) else none
def rTake (σ : SG) (r : Nat) : Option (Int32 × SG) := match (sW σ r).getLast? with
  | some v => some (v, uW σ r (sW σ r).dropLast)
  | none => none
def rTop (σ : SG) (r : Nat) : Option Int32 := (sW σ r).getLast?
def qIS (S : List Value) (f : Int32 → List Value → XS) : XS := match S with
  | .int a :: S => f a S
  | _ => none
def q1S (S : List Value) (f : Value → List Value → XS) : XS := match S with
  | v :: S => f v S
  | _ => none
def qAS (S : List Value) (f : Nat → List Value → XS) : XS := match S with
  | .ref a :: S => f a S
  | _ => none
def qJS (S : List Value) (f : Int64 → List Value → XS) : XS := match S with
  | .long a :: S => f a S
  | _ => none
def qIIS (S : List Value) (f : Int32 → Int32 → List Value → XS) : XS := match S with
  | .int b :: .int a :: S => f a b S
  | _ => none
def qJJS (S : List Value) (f : Int64 → Int64 → List Value → XS) : XS := match S with
  | .long b :: .long a :: S => f a b S
  | _ => none
def qJIS (S : List Value) (f : Int64 → Int32 → List Value → XS) : XS := match S with
  | .int b :: .long a :: S => f a b S
  | _ => none
def lIS (L : LO) (i : Nat) (f : Int32 → XS) : XS := match L.lookup i with
  | some (.int a) => f a
  | _ => none
def lJS (L : LO) (i : Nat) (f : Int64 → XS) : XS := match L.lookup i with
  | some (.long a) => f a
  | _ => none
def lAS (L : LO) (i : Nat) (f : Nat → XS) : XS := match L.lookup i with
  | some (.ref a) => f a
  | _ => none
def jpS (pc : Nat) (o : Int) (f : Nat → XS) : XS := if 0 ≤ (pc : Int) + o then f ((pc : Int) + o).toNat else none
def isCS (v : Value) (c : Nat) : Bool := match v with
  | .ref a => Nat.beq (tgS a) c
  | _ => false
/-- a row's methods -/
def wAt (pc : Nat) (L : LO) (S : List Value) (σ : SG) : XS := match S with
  | .int k :: .ref r :: S => bif Nat.beq (tgS r) 4 && Nat.ble (wds S) 8 then ob (rAt σ r k) (fun x => nxS (pc + 3) L (.int x :: S) σ) else none
  | _ => none
def wAdd (pc : Nat) (L : LO) (S : List Value) (σ : SG) : XS := match S with
  | .int v :: .ref r :: S => bif Nat.beq (tgS r) 4 && Nat.ble (wds S) 8 then ob (rAdd σ r v) (fun x => nxS (pc + 3) L (.int x.1 :: S) x.2) else none
  | _ => none
def wSet (pc : Nat) (L : LO) (S : List Value) (σ : SG) : XS := match S with
  | .int v :: .int k :: .ref r :: S => bif Nat.beq (tgS r) 4 && Nat.ble (wds S) 8 then ob (rSet σ r k v) (fun x => nxS (pc + 3) L S x) else none
  | _ => none
def wTake (pc : Nat) (L : LO) (S : List Value) (σ : SG) : XS := match S with
  | .ref r :: S => bif Nat.beq (tgS r) 4 && Nat.ble (wds S) 8 then ob (rTake σ r) (fun x => nxS (pc + 3) L (.int x.1 :: S) x.2) else none
  | _ => none
def wTop (pc : Nat) (L : LO) (S : List Value) (σ : SG) : XS := match S with
  | .ref r :: S => bif Nat.beq (tgS r) 4 && Nat.ble (wds S) 8 then ob (rTop σ r) (fun x => nxS (pc + 3) L (.int x :: S) σ) else none
  | _ => none
def exW (q : Nat) (pc : Nat) (L : LO) (S : List Value) (σ : SG) : XS := bif Nat.beq q 89 then wAt pc L S σ else bif Nat.beq q 90 then wAdd pc L S σ else bif Nat.beq q 91 then wSet pc L S σ else bif Nat.beq q 92 then wTake pc L S σ else bif Nat.beq q 93 then wTop pc L S σ else none
def exCS (d : Nat) (q : Nat × Nat × Nat × Nat) (pc : Nat) (L : LO) (S : List Value) (σ : SG) : XS :=
  match q with
  | (kd, k, n, c) => bif Nat.ble kd 4 then (bif Nat.ble 89 k && Nat.ble k 93 then (bif Nat.ble 4 d && !Nat.beq kd 1 then exW k pc L S σ else none) else bif Nat.beq kd 2 || Nat.beq kd 4 then none else bif Nat.ble n S.length && Nat.ble (wds (S.drop n)) 8 && Nat.ble (wds (S.take n)) (mxL k) && (Nat.beq kd 1 || isCS ((S.take n).getLastD .null) c) then calS k (S.take n).reverse (pc + 3) L (S.drop n) σ else none)
    else bif Nat.beq kd 13 then (match S with
      | .ref v :: S => bif Nat.ble 6 d && Nat.ble (wds S) 8 then ob (stLS v) (fun x => nxS (pc + 3) L (.int x :: S) σ) else none
      | _ => none)
    else bif Nat.beq kd 14 then (match S with
      | .int i :: .ref v :: S => bif Nat.ble 6 d && Nat.ble (wds S) 8 then ob (stCS v i) (fun x => nxS (pc + 3) L (.int x :: S) σ) else none
      | _ => none)
    else bif Nat.beq kd 15 then (match S with
      | .int b :: .int a :: S => bif Nat.ble 1 d && Nat.ble (wds S) 8 then nxS (pc + 3) L (.int (mxI a b) :: S) σ else none
      | _ => none)
    else bif Nat.beq kd 16 then (match S with
      | .int b :: .int a :: S => bif Nat.ble 1 d && Nat.ble (wds S) 8 then nxS (pc + 3) L (.int (mnI a b) :: S) σ else none
      | _ => none)
    else none
/-- a new exception, thrown at once -/
def nwt (d k pc t : Nat) : Bool := exT t && (nwx d k pc t && ((match codeAt k (pc + 9) with
  | some .athrow => true
  | _ => false) && (hTab k).isEmpty))
def exS (b : Bool) (d k : Nat) (i : Instr) (pc : Nat) (L : LO) (S : List Value) (σ : SG) : XS := match i with
  | .aaload => (match S with
    | .int i :: .ref a :: S => ob (aRS a i) (fun x => nxS (pc + 1) L (.ref x :: S) σ)
    | _ => none)
  | .aload n => lAS L n (fun a => nxS (pc + 2) L (.ref a :: S) σ)
  | .aload_n n => lAS L n.val (fun a => nxS (pc + 1) L (.ref a :: S) σ)
  | .areturn => (match S with
    | [.ref a] => bif Nat.beq (rTy k) 3 then finS (.inl (some (.ref a))) σ else none
    | _ => none)
  | .arraylength => qAS S (fun a S => ob (aNS a) (fun x => nxS (pc + 1) L (.int x :: S) σ))
  | .astore n => (match S with
    | .ref a :: S => bif Nat.ble (n + 1) (mxL k) then nxS (pc + 2) (st1 L n (.ref a)) S σ else none
    | _ => none)
  | .astore_n n => (match S with
    | .ref a :: S => bif Nat.ble (n.val + 1) (mxL k) then nxS (pc + 1) (st1 L n.val (.ref a)) S σ else none
    | _ => none)
  | .baload => (match S with
    | .int i :: .ref a :: S => ob (aBS σ a i) (fun x => nxS (pc + 1) L (.int x :: S) σ)
    | _ => none)
  | .bastore => (match S with
    | .int x :: .int i :: .ref a :: S => ob (bBS σ a i x) (fun σ => nxS (pc + 1) L S σ)
    | _ => none)
  | .bipush n => nxS (pc + 2) L (.int (Int8.ofInt n).toInt32 :: S) σ
  | .dup => q1S S (fun v S => bif Nat.beq v.category 1 then nxS (pc + 1) L (v :: v :: S) σ else none)
  | .dup_x1 => q1S S (fun v S => q1S S (fun w S => bif Nat.beq v.category 1 && Nat.beq w.category 1 then nxS (pc + 1) L (v :: w :: v :: S) σ else none))
  | .goto o => jpS pc o (fun t => nxS t L S σ)
  | .i2b => qIS S (fun a S => nxS (pc + 1) L (.int a.toInt8.toInt32 :: S) σ)
  | .i2l => qIS S (fun a S => nxS (pc + 1) L (.long a.toInt64 :: S) σ)
  | .iadd => qIIS S (fun a b S => nxS (pc + 1) L (.int (a + b) :: S) σ)
  | .iaload => (match S with
    | .int i :: .ref a :: S => ob (aIS σ a i) (fun x => nxS (pc + 1) L (.int x :: S) σ)
    | _ => none)
  | .iand => qIIS S (fun a b S => nxS (pc + 1) L (.int (a &&& b) :: S) σ)
  | .iastore => (match S with
    | .int x :: .int i :: .ref a :: S => ob (bIS σ a i x) (fun σ => nxS (pc + 1) L S σ)
    | _ => none)
  | .iconst n => nxS (pc + 1) L (.int (Int32.ofInt n) :: S) σ
  | .idiv => qIIS S (fun a b S => if b = 0 then none else nxS (pc + 1) L (.int (a / b) :: S) σ)
  | .if_icmp c o => qIIS S (fun a b S => jpS pc o (fun t => if cndI c a b = true then nxS t L S σ else nxS (pc + 3) L S σ))
  | .ifCond c o => qIS S (fun a S => jpS pc o (fun t => if cndI c a 0 = true then nxS t L S σ else nxS (pc + 3) L S σ))
  | .iinc n c => lIS L n (fun a => bif Nat.ble (n + 1) (mxL k) then nxS (pc + 3) (st1 L n (.int (a + Int32.ofInt c))) S σ else none)
  | .iload n => lIS L n (fun a => nxS (pc + 2) L (.int a :: S) σ)
  | .iload_n n => lIS L n.val (fun a => nxS (pc + 1) L (.int a :: S) σ)
  | .imul => qIIS S (fun a b S => nxS (pc + 1) L (.int (a * b) :: S) σ)
  | .ior => qIIS S (fun a b S => nxS (pc + 1) L (.int (a ||| b) :: S) σ)
  | .irem => qIIS S (fun a b S => if b = 0 then none else nxS (pc + 1) L (.int (a - a / b * b) :: S) σ)
  | .ireturn => (match S with
    | [.int a] => bif Nat.beq (rTy k) 1 then finS (.inl (some (.int a))) σ else bif Nat.beq (rTy k) 4 then (if a = 0 ∨ a = 1 then finS (.inl (some (.int a))) σ else none) else none
    | _ => none)
  | .ishl => qIIS S (fun a b S => nxS (pc + 1) L (.int (a <<< (b &&& 31)) :: S) σ)
  | .ishr => qIIS S (fun a b S => nxS (pc + 1) L (.int (a >>> (b &&& 31)) :: S) σ)
  | .istore n => qIS S (fun a S => bif Nat.ble (n + 1) (mxL k) then nxS (pc + 2) (st1 L n (.int a)) S σ else none)
  | .istore_n n => qIS S (fun a S => bif Nat.ble (n.val + 1) (mxL k) then nxS (pc + 1) (st1 L n.val (.int a)) S σ else none)
  | .isub => qIIS S (fun a b S => nxS (pc + 1) L (.int (a - b) :: S) σ)
  | .ixor => qIIS S (fun a b S => nxS (pc + 1) L (.int (a ^^^ b) :: S) σ)
  | .l2i => qJS S (fun a S => nxS (pc + 1) L (.int a.toInt32 :: S) σ)
  | .ladd => qJJS S (fun a b S => nxS (pc + 1) L (.long (a + b) :: S) σ)
  | .laload => (match S with
    | .int i :: .ref a :: S => ob (aJS σ a i) (fun x => nxS (pc + 1) L (.long x :: S) σ)
    | _ => none)
  | .land => qJJS S (fun a b S => nxS (pc + 1) L (.long (a &&& b) :: S) σ)
  | .lastore => (match S with
    | .long x :: .int i :: .ref a :: S => ob (bJS σ a i x) (fun σ => nxS (pc + 1) L S σ)
    | _ => none)
  | .lcmp => qJJS S (fun a b S => nxS (pc + 1) L (.int (lg_cmp a b) :: S) σ)
  | .lconst n => nxS (pc + 1) L (.long (Int64.ofNat n.val) :: S) σ
  | .ldc n => ob (cT (oN k) n) (fun v => nxS (pc + 2) L (v :: S) σ)
  | .ldc2_w n => ob (jT (oN k) n) (fun v => nxS (pc + 3) L (.long v :: S) σ)
  | .lload n => lJS L n (fun a => nxS (pc + 2) L (.long a :: S) σ)
  | .lload_n n => lJS L n.val (fun a => nxS (pc + 1) L (.long a :: S) σ)
  | .lmul => qJJS S (fun a b S => nxS (pc + 1) L (.long (a * b) :: S) σ)
  | .lneg => qJS S (fun a S => nxS (pc + 1) L (.long (-a) :: S) σ)
  | .lookupswitch df ps => qIS S (fun a S => bif lchk pc df ps.toList then nxS (selT a (lcs pc ps.toList) ((pc : Int) + df).toNat) L S σ else none)
  | .lor => qJJS S (fun a b S => nxS (pc + 1) L (.long (a ||| b) :: S) σ)
  | .lreturn => (match S with
    | [.long a] => bif Nat.beq (rTy k) 2 then finS (.inl (some (.long a))) σ else none
    | _ => none)
  | .lshl => qJIS S (fun a b S => nxS (pc + 1) L (.long (a <<< (b.toInt64 &&& 63)) :: S) σ)
  | .lshr => qJIS S (fun a b S => nxS (pc + 1) L (.long (a >>> (b.toInt64 &&& 63)) :: S) σ)
  | .lstore n => qJS S (fun a S => bif Nat.ble (n + 2) (mxL k) then nxS (pc + 2) (st2 L n (.long a)) S σ else none)
  | .lstore_n n => qJS S (fun a S => bif Nat.ble (n.val + 2) (mxL k) then nxS (pc + 1) (st2 L n.val (.long a)) S σ else none)
  | .lsub => qJJS S (fun a b S => nxS (pc + 1) L (.long (a - b) :: S) σ)
  | .lushr => qJIS S (fun a b S => nxS (pc + 1) L (.long ((a.toUInt64 >>> (b.toInt64.toUInt64 &&& Int64.toUInt64 63)).toInt64) :: S) σ)
  | .lxor => qJJS S (fun a b S => nxS (pc + 1) L (.long (a ^^^ b) :: S) σ)
  | .pop => q1S S (fun v S => bif Nat.beq v.category 1 then nxS (pc + 1) L S σ else none)
  | .pop2 => qJS S (fun a S => nxS (pc + 1) L S σ)
  | .return_ => (match S with
    | [] => bif Nat.beq (rTy k) 0 then finS (.inl none) σ else none
    | _ => none)
  | .sipush n => nxS (pc + 3) L (.int (Int16.ofInt n).toInt32 :: S) σ
  | .tableswitch df lo hi os => qIS S (fun a S => bif tchk pc df lo hi os.toList then nxS (selT a (tcs pc lo os.toList) ((pc : Int) + df).toNat) L S σ else none)
  | .athrow => (match S with
    | .ref a :: _ => bif List.isEmpty (hTab k) && Nat.beq a 29 then finS (.inr 0) σ else none
    | _ => none)
  | .new n => ob (nT (oN k) n) (fun q => bif nwt d k pc q.1 && Nat.ble (wds S) 8 then (if sX σ < 200 then finS (.inr q.1) (uX σ) else none) else none)
  | .getfield n => qAS S (fun a S => ob (fT (oN k) n) (fun q => match q with
    | (c, f, t, _) => bif Nat.beq t 0 || Nat.beq t 3 then ob (gIS σ a c f) (fun x => nxS (pc + 3) L (.int x :: S) σ) else bif Nat.beq t 1 then ob (gJS σ a c f) (fun x => nxS (pc + 3) L (.long x :: S) σ) else ob (gRS b a c f) (fun x => nxS (pc + 3) L (.ref x :: S) σ)))
  | .putfield n => q1S S (fun x S => qAS S (fun v S => ob (fT (oN k) n) (fun q => match q with
    | (c, f, t, fi) => bif !fi then (match x with
      | .int a => bif Nat.beq t 0 then ob (pIS σ v c f a) (fun σ => nxS (pc + 3) L S σ) else bif Nat.beq t 3 then ob (pZS σ v c f a) (fun σ => nxS (pc + 3) L S σ) else none
      | .long a => bif Nat.beq t 1 then ob (pJS σ v c f a) (fun σ => nxS (pc + 3) L S σ) else none
      | _ => none) else none)))
  | .getstatic n => ob (gT (oN k) n) (fun a => nxS (pc + 3) L (.ref a :: S) σ)
  | .invokestatic n => ob (mT (oN k) n) (fun q => bif Nat.beq q.1 1 || Nat.beq q.1 15 || Nat.beq q.1 16 then exCS d q pc L S σ else none)
  | .invokevirtual n => ob (mT (oN k) n) (fun q => bif Nat.beq q.1 0 || Nat.beq q.1 3 || Nat.beq q.1 13 || Nat.beq q.1 14 then exCS d q pc L S σ else none)
  | _ => none
abbrev RCS : Type := Nat → Nat → Nat → LO → List Value → SG → RSG
def stpS (b : Bool) (rec : RCS) : RCS := fun d k pc L S σ => match codeAt k pc with
  | none => none
  | some i => match exS b d k i pc (nrm (livAt k pc) L) S σ with
    | none => none
    | some (.inl (pc', L', S', σ')) => rec d k pc' L' S' σ'
    | some (.inr (.inl (o, σ'))) => some (o, σ')
    | some (.inr (.inr (k', as, pc', L', S', σ'))) => match d with
      | 0 => none
      | d' + 1 => match rec d' k' 0 (ent 0 as) [] σ' with
        | none => none
        | some (.inl v, σ2) => bif rtOK (rTy k') v then rec (d' + 1) k pc' L' (v.toList ++ S') σ2 else none
        | some (.inr a, σ2) => bif (hTab k).isEmpty then some (.inr a, σ2) else none
def runS (b : Bool) : Nat → RCS
  | 0 => fun _ _ _ _ _ _ => none
  | n + 1 => stpS b (runS b n)
theorem stpS_mono {b : Bool} {r1 r2 : RCS} (h : ∀ d k pc L S hh x, r1 d k pc L S hh = some x → r2 d k pc L S hh = some x) : ∀ d k pc L S hh x, stpS b r1 d k pc L S hh = some x → stpS b r2 d k pc L S hh = some x := by
  intro d k pc L S hh x hx
  unfold stpS at hx ⊢
  cases hc : codeAt k pc with
  | none => rw [hc] at hx; cases hx
  | some i =>
    rw [hc] at hx
    dsimp only at hx ⊢
    cases he : exS b d k i pc (nrm (livAt k pc) L) S hh with
    | none => rw [he] at hx; cases hx
    | some r =>
      rw [he] at hx
      rcases r with ⟨pc', L', S', h'⟩ | ⟨o, h'⟩ | ⟨k', as, pc', L', S', h'⟩
      · exact h _ _ _ _ _ _ _ hx
      · exact hx
      · dsimp only at hx ⊢
        cases d with
        | zero => cases hx
        | succ d' =>
          dsimp only at hx ⊢
          cases hr : r1 d' k' 0 (ent 0 as) [] h' with
          | none => rw [hr] at hx; cases hx
          | some y =>
            rw [hr] at hx
            rw [h _ _ _ _ _ _ _ hr]
            obtain ⟨o, h2⟩ := y
            cases o with
            | inl v =>
              dsimp only at hx ⊢
              cases hb : rtOK (rTy k') v with
              | false => rw [hb] at hx; cases hx
              | true => rw [hb] at hx; exact h _ _ _ _ _ _ _ hx
            | inr a =>
              dsimp only at hx ⊢
              exact hx
theorem runS_succ {b : Bool} : ∀ (n : Nat) d k pc L S hh x, runS b n d k pc L S hh = some x → runS b (n + 1) d k pc L S hh = some x := by
  intro n
  induction n with
  | zero => intro d k pc L S hh x h; cases h
  | succ n ih => exact stpS_mono ih
theorem runS_le {b : Bool} {n m : Nat} (hnm : n ≤ m) : ∀ d k pc L S hh x, runS b n d k pc L S hh = some x → runS b m d k pc L S hh = some x := by
  induction hnm with
  | refl => intro d k pc L S hh x h; exact h
  | step _ ih => intro d k pc L S hh x h; exact runS_succ _ _ _ _ _ _ _ _ (ih _ _ _ _ _ _ _ h)
noncomputable def evS (b : Bool) : RCS := fun d k pc L S h => Classical.epsilon (fun r : RSG => (∃ n, runS b n d k pc L S h = r ∧ r ≠ none) ∨ ((∀ n, runS b n d k pc L S h = none) ∧ r = none))
theorem evS_spec {b : Bool} (d k pc : Nat) (L : LO) (S : List Value) (h : SG) : (∃ n, runS b n d k pc L S h = evS b d k pc L S h ∧ evS b d k pc L S h ≠ none) ∨ ((∀ n, runS b n d k pc L S h = none) ∧ evS b d k pc L S h = none) := by
  refine Classical.epsilon_spec (p := fun r : RSG => (∃ n, runS b n d k pc L S h = r ∧ r ≠ none) ∨ ((∀ n, runS b n d k pc L S h = none) ∧ r = none)) ?_
  by_cases hx : ∃ n, runS b n d k pc L S h ≠ none
  · obtain ⟨n, hn⟩ := hx
    exact ⟨_, Or.inl ⟨n, rfl, hn⟩⟩
  · exact ⟨none, Or.inr ⟨fun n => Classical.byContradiction fun z => hx ⟨n, z⟩, rfl⟩⟩
theorem evS_of_run {b : Bool} {n d k pc : Nat} {L : LO} {S : List Value} {h : SG} {x : OU × SG} (hr : runS b n d k pc L S h = some x) : evS b d k pc L S h = some x := by
  rcases evS_spec d k pc L S h with ⟨m, hm, hne⟩ | ⟨ha, -⟩
  · cases he : evS b d k pc L S h with
    | none => exact absurd he hne
    | some y =>
      rw [he] at hm
      have h1 := runS_le (Nat.le_max_left n m) _ _ _ _ _ _ _ hr
      have h2 := runS_le (Nat.le_max_right n m) _ _ _ _ _ _ _ hm
      rw [h1] at h2
      exact h2.symm
  · rw [ha n] at hr; cases hr
theorem runS_of_ev {b : Bool} {d k pc : Nat} {L : LO} {S : List Value} {h : SG} {x : OU × SG} (he : evS b d k pc L S h = some x) : ∃ n, runS b n d k pc L S h = some x := by
  rcases evS_spec d k pc L S h with ⟨m, hm, -⟩ | ⟨-, hz⟩
  · exact ⟨m, hm.trans he⟩
  · rw [he] at hz; cases hz
/-- the equation of all runs -/
theorem evS_eq {b : Bool} (d k pc : Nat) (L : LO) (S : List Value) (h : SG) : evS b d k pc L S h = stpS b (evS b) d k pc L S h := by
  cases hs : stpS b (evS b) d k pc L S h with
  | some x =>
    have key : ∃ n, runS b n d k pc L S h = some x := by
      unfold stpS at hs
      cases hc : codeAt k pc with
      | none => rw [hc] at hs; cases hs
      | some i =>
        rw [hc] at hs
        dsimp only at hs
        cases he : exS b d k i pc (nrm (livAt k pc) L) S h with
        | none => rw [he] at hs; cases hs
        | some r =>
          rw [he] at hs
          rcases r with ⟨pc', L', S', h'⟩ | ⟨o, h'⟩ | ⟨k', as, pc', L', S', h'⟩
          · obtain ⟨n, hn⟩ := runS_of_ev hs
            refine ⟨n + 1, ?_⟩
            show stpS b (runS b n) d k pc L S h = some x
            unfold stpS
            rw [hc]; dsimp only; rw [he]
            exact hn
          · refine ⟨1, ?_⟩
            show stpS b (runS b 0) d k pc L S h = some x
            unfold stpS
            rw [hc]; dsimp only; rw [he]
            exact hs
          · dsimp only at hs
            cases d with
            | zero => cases hs
            | succ d' =>
              dsimp only at hs
              cases hr : evS b d' k' 0 (ent 0 as) [] h' with
              | none => rw [hr] at hs; cases hs
              | some y =>
                rw [hr] at hs
                obtain ⟨n1, hn1⟩ := runS_of_ev hr
                obtain ⟨o, h2⟩ := y
                cases o with
                | inl v =>
                  dsimp only at hs
                  cases hb : rtOK (rTy k') v with
                  | false => rw [hb] at hs; cases hs
                  | true =>
                  rw [hb] at hs
                  obtain ⟨n2, hn2⟩ := runS_of_ev hs
                  refine ⟨max n1 n2 + 1, ?_⟩
                  show stpS b (runS b (max n1 n2)) (d' + 1) k pc L S h = some x
                  unfold stpS
                  rw [hc]; dsimp only; rw [he]; dsimp only
                  rw [runS_le (Nat.le_max_left n1 n2) _ _ _ _ _ _ _ hn1]; dsimp only; rw [hb]
                  exact runS_le (Nat.le_max_right n1 n2) _ _ _ _ _ _ _ hn2
                | inr a =>
                  dsimp only at hs
                  refine ⟨n1 + 1, ?_⟩
                  show stpS b (runS b n1) (d' + 1) k pc L S h = some x
                  unfold stpS
                  rw [hc]; dsimp only; rw [he]; dsimp only
                  rw [hn1]
                  exact hs
    obtain ⟨n, hn⟩ := key
    exact evS_of_run hn
  | none =>
    cases he : evS b d k pc L S h with
    | none => rfl
    | some x =>
      obtain ⟨n, hn⟩ := runS_of_ev he
      cases n with
      | zero => cases hn
      | succ n =>
        have h1 := stpS_mono (r1 := runS b n) (r2 := evS b) (fun d k pc L S hh x hx => evS_of_run hx) _ _ _ _ _ _ _ hn
        rw [hs] at h1
        cases h1

