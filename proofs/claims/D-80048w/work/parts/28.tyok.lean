set_option maxRecDepth 1000000
theorem ty_ok0 : ty_okM 0 = true := by decide +kernel
theorem ty_ok1 : ty_okM 1 = true := by decide +kernel
theorem ty_ok2 : ty_okM 2 = true := by decide +kernel
theorem ty_ok3 : ty_okM 3 = true := by decide +kernel
theorem ty_ok4 : ty_okM 4 = true := by decide +kernel
theorem ty_ok5 : ty_okM 5 = true := by decide +kernel
theorem ty_ok6 : ty_okM 6 = true := by decide +kernel
theorem ty_ok7 : ty_okM 7 = true := by decide +kernel
theorem ty_ok8 : ty_okM 8 = true := by decide +kernel
theorem ty_ok9 : ty_okM 9 = true := by decide +kernel
theorem ty_ok10 : ty_okM 10 = true := by decide +kernel
theorem ty_ok11 : ty_okM 11 = true := by decide +kernel
theorem ty_ok12 : ty_okM 12 = true := by decide +kernel
theorem ty_ok13 : ty_okM 13 = true := by decide +kernel
theorem ty_ok14 : ty_okM 14 = true := by decide +kernel
theorem ty_ok15 : ty_okM 15 = true := by decide +kernel
theorem ty_ok16 : ty_okM 16 = true := by decide +kernel
theorem ty_ok17 : ty_okM 17 = true := by decide +kernel
theorem ty_ok18 : ty_okM 18 = true := by decide +kernel
theorem ty_ok19 : ty_okM 19 = true := by decide +kernel
theorem ty_ok20 : ty_okM 20 = true := by decide +kernel
theorem ty_ok21 : ty_okM 21 = true := by decide +kernel
theorem ty_ok22 : ty_okM 22 = true := by decide +kernel
theorem ty_ok23 : ty_okM 23 = true := by decide +kernel
theorem ty_ok24 : ty_okM 24 = true := by decide +kernel
theorem ty_ok25 : ty_okM 25 = true := by decide +kernel
theorem ty_ok26 : ty_okM 26 = true := by decide +kernel
theorem ty_ok27 : ty_okM 27 = true := by decide +kernel
theorem ty_ok28 : ty_okM 28 = true := by decide +kernel
theorem ty_ok29 : ty_okM 29 = true := by decide +kernel
theorem ty_ok30 : ty_okM 30 = true := by decide +kernel
theorem ty_ok31 : ty_okM 31 = true := by decide +kernel
theorem ty_ok32 : ty_okM 32 = true := by decide +kernel
theorem ty_ok33 : ty_okM 33 = true := by decide +kernel
theorem ty_ok34 : ty_okM 34 = true := by decide +kernel
theorem ty_ok35 : ty_okM 35 = true := by decide +kernel
theorem ty_ok36 : ty_okM 36 = true := by decide +kernel
theorem ty_ok37 : ty_okM 37 = true := by decide +kernel
theorem ty_ok38 : ty_okM 38 = true := by decide +kernel
theorem ty_ok39 : ty_okM 39 = true := by decide +kernel
theorem ty_ok40 : ty_okM 40 = true := by decide +kernel
theorem ty_ok41 : ty_okM 41 = true := by decide +kernel
theorem ty_ok42 : ty_okM 42 = true := by decide +kernel
theorem ty_ok43 : ty_okM 43 = true := by decide +kernel
theorem ty_ok44 : ty_okM 44 = true := by decide +kernel
theorem ty_ok45 : ty_okM 45 = true := by decide +kernel
theorem ty_ok46 : ty_okM 46 = true := by decide +kernel
theorem ty_ok47 : ty_okM 47 = true := by decide +kernel
theorem ty_ok48 : ty_okM 48 = true := by decide +kernel
theorem ty_ok49 : ty_okM 49 = true := by decide +kernel
theorem ty_ok50 : ty_okM 50 = true := by decide +kernel
theorem ty_ok51 : ty_okM 51 = true := by decide +kernel
theorem ty_ok52 : ty_okM 52 = true := by decide +kernel
theorem ty_ok53 : ty_okM 53 = true := by decide +kernel
theorem ty_ok54 : ty_okM 54 = true := by decide +kernel
theorem ty_ok55 : ty_okM 55 = true := by decide +kernel
theorem ty_ok56 : ty_okM 56 = true := by decide +kernel
theorem ty_ok57 : ty_okM 57 = true := by decide +kernel
theorem ty_ok58 : ty_okM 58 = true := by decide +kernel
theorem ty_ok59 : ty_okM 59 = true := by decide +kernel
theorem ty_ok60 : ty_okM 60 = true := by decide +kernel
theorem ty_ok61 : ty_okM 61 = true := by decide +kernel
theorem ty_ok62 : ty_okM 62 = true := by decide +kernel
theorem ty_ok63 : ty_okM 63 = true := by decide +kernel
theorem ty_ok64 : ty_okM 64 = true := by decide +kernel
theorem ty_ok65 : ty_okM 65 = true := by decide +kernel
theorem ty_ok66 : ty_okM 66 = true := by decide +kernel
theorem ty_ok67 : ty_okM 67 = true := by decide +kernel
theorem ty_ok68 : ty_okM 68 = true := by decide +kernel
theorem ty_ok69 : ty_okM 69 = true := by decide +kernel
theorem ty_ok70 : ty_okM 70 = true := by decide +kernel
theorem ty_ok71 : ty_okM 71 = true := by decide +kernel
theorem ty_ok72 : ty_okM 72 = true := by decide +kernel
theorem ty_ok73 : ty_okM 73 = true := by decide +kernel
theorem ty_ok74 : ty_okM 74 = true := by decide +kernel
theorem ty_ok75 : ty_okM 75 = true := by decide +kernel
theorem ty_ok76 : ty_okM 76 = true := by decide +kernel
theorem ty_ok77 : ty_okM 77 = true := by decide +kernel
theorem ty_ok78 : ty_okM 78 = true := by decide +kernel
theorem ty_ok79 : ty_okM 79 = true := by decide +kernel
theorem ty_ok80 : ty_okM 80 = true := by decide +kernel
theorem ty_ok81 : ty_okM 81 = true := by decide +kernel
theorem ty_ok82 : ty_okM 82 = true := by decide +kernel
theorem ty_ok83 : ty_okM 83 = true := by decide +kernel
theorem ty_ok84 : ty_okM 84 = true := by decide +kernel
theorem ty_ok85 : ty_okM 85 = true := by decide +kernel
theorem ty_ok86 : ty_okM 86 = true := by decide +kernel
theorem ty_ok87 : ty_okM 87 = true := by decide +kernel
theorem ty_ok88 : ty_okM 88 = true := by decide +kernel
theorem ty_ok89 : ty_okM 89 = true := by decide +kernel
theorem ty_ok90 : ty_okM 90 = true := by decide +kernel
theorem ty_ok91 : ty_okM 91 = true := by decide +kernel
theorem ty_ok92 : ty_okM 92 = true := by decide +kernel
theorem ty_ok93 : ty_okM 93 = true := by decide +kernel
theorem ty_ok94 : ty_okM 94 = true := by decide +kernel
theorem ty_ok95 : ty_okM 95 = true := by decide +kernel
theorem ty_ok96 : ty_okM 96 = true := by decide +kernel
theorem ty_ok97 : ty_okM 97 = true := by decide +kernel
theorem ty_ok98 : ty_okM 98 = true := by decide +kernel
theorem ty_ok99 : ty_okM 99 = true := by decide +kernel
theorem ty_ok100 : ty_okM 100 = true := by decide +kernel
theorem ty_ok101 : ty_okM 101 = true := by decide +kernel
theorem ty_ok102 : ty_okM 102 = true := by decide +kernel
theorem ty_ok103 : ty_okM 103 = true := by decide +kernel
theorem ty_ok104 : ty_okM 104 = true := by decide +kernel
theorem ty_ok105 : ty_okM 105 = true := by decide +kernel
theorem ty_ok106 : ty_okM 106 = true := by decide +kernel
theorem ty_ok107 : ty_okM 107 = true := by decide +kernel
theorem ty_ok108 : ty_okM 108 = true := by decide +kernel
theorem ty_ok109 : ty_okM 109 = true := by decide +kernel
theorem ty_ok110 : ty_okM 110 = true := by decide +kernel
theorem ty_ok111 : ty_okM 111 = true := by decide +kernel
theorem ty_ok112 : ty_okM 112 = true := by decide +kernel
theorem ty_ok113 : ty_okM 113 = true := by decide +kernel
theorem ty_ok114 : ty_okM 114 = true := by decide +kernel
theorem ty_ok115 : ty_okM 115 = true := by decide +kernel
theorem ty_ok116 : ty_okM 116 = true := by decide +kernel
theorem ty_ok117 : ty_okM 117 = true := by decide +kernel
theorem ty_ok118 : ty_okM 118 = true := by decide +kernel
theorem ty_ok119 : ty_okM 119 = true := by decide +kernel
theorem ty_ok120 : ty_okM 120 = true := by decide +kernel
theorem ty_ok121 : ty_okM 121 = true := by decide +kernel
theorem ty_ok122 : ty_okM 122 = true := by decide +kernel
theorem ty_ok123 : ty_okM 123 = true := by decide +kernel
theorem ty_ok124 : ty_okM 124 = true := by decide +kernel
theorem ty_ok125 : ty_okM 125 = true := by decide +kernel
theorem ty_ok126 : ty_okM 126 = true := by decide +kernel
theorem ty_ok127 : ty_okM 127 = true := by decide +kernel
theorem ty_ok128 : ty_okM 128 = true := by decide +kernel
theorem ty_ok129 : ty_okM 129 = true := by decide +kernel
theorem ty_ok130 : ty_okM 130 = true := by decide +kernel
theorem ty_ok131 : ty_okM 131 = true := by decide +kernel
theorem ty_ok132 : ty_okM 132 = true := by decide +kernel
theorem ty_ok133 : ty_okM 133 = true := by decide +kernel
theorem ty_ok134 : ty_okM 134 = true := by decide +kernel
theorem ty_ok135 : ty_okM 135 = true := by decide +kernel
theorem ty_ok136 : ty_okM 136 = true := by decide +kernel
theorem ty_ok137 : ty_okM 137 = true := by decide +kernel
theorem ty_ok138 : ty_okM 138 = true := by decide +kernel
theorem ty_ok139 : ty_okM 139 = true := by decide +kernel
theorem ty_ok140 : ty_okM 140 = true := by decide +kernel
theorem ty_ok141 : ty_okM 141 = true := by decide +kernel
theorem ty_ok142 : ty_okM 142 = true := by decide +kernel
theorem ty_ok143 : ty_okM 143 = true := by decide +kernel
theorem ty_ok144 : ty_okM 144 = true := by decide +kernel
theorem ty_ok145 : ty_okM 145 = true := by decide +kernel
theorem ty_ok146 : ty_okM 146 = true := by decide +kernel
theorem ty_ok147 : ty_okM 147 = true := by decide +kernel
theorem ty_ok148 : ty_okM 148 = true := by decide +kernel
theorem ty_ok149 : ty_okM 149 = true := by decide +kernel
theorem ty_ok150 : ty_okM 150 = true := by decide +kernel
theorem ty_ok151 : ty_okM 151 = true := by decide +kernel
theorem ty_ok152 : ty_okM 152 = true := by decide +kernel
theorem ty_ok153 : ty_okM 153 = true := by decide +kernel
theorem ty_ok154 : ty_okM 154 = true := by decide +kernel
theorem ty_ok155 : ty_okM 155 = true := by decide +kernel
theorem ty_ok156 : ty_okM 156 = true := by decide +kernel
theorem ty_ok157 : ty_okM 157 = true := by decide +kernel
theorem ty_ok158 : ty_okM 158 = true := by decide +kernel
theorem ty_ok159 : ty_okM 159 = true := by decide +kernel
theorem ty_ok160 : ty_okM 160 = true := by decide +kernel
theorem ty_ok161 : ty_okM 161 = true := by decide +kernel
theorem ty_ok162 : ty_okM 162 = true := by decide +kernel
theorem ty_ok163 : ty_okM 163 = true := by decide +kernel
theorem ty_ok164 : ty_okM 164 = true := by decide +kernel
theorem ty_ok165 : ty_okM 165 = true := by decide +kernel
theorem ty_ok166 : ty_okM 166 = true := by decide +kernel
theorem ty_ok167 : ty_okM 167 = true := by decide +kernel
theorem ty_ok168 : ty_okM 168 = true := by decide +kernel
theorem ty_ok169 : ty_okM 169 = true := by decide +kernel
theorem ty_ok170 : ty_okM 170 = true := by decide +kernel
theorem ty_ok171 : ty_okM 171 = true := by decide +kernel
theorem ty_ok172 : ty_okM 172 = true := by decide +kernel
theorem ty_ok173 : ty_okM 173 = true := by decide +kernel
theorem ty_ok174 : ty_okM 174 = true := by decide +kernel
theorem ty_ok175 : ty_okM 175 = true := by decide +kernel
theorem ty_ok176 : ty_okM 176 = true := by decide +kernel
theorem ty_ok177 : ty_okM 177 = true := by decide +kernel
theorem ty_ok178 : ty_okM 178 = true := by decide +kernel
theorem ty_ok179 : ty_okM 179 = true := by decide +kernel
theorem ty_ok180 : ty_okM 180 = true := by decide +kernel
theorem ty_ok181 : ty_okM 181 = true := by decide +kernel
theorem ty_ok182 : ty_okM 182 = true := by decide +kernel
theorem ty_ok183 : ty_okM 183 = true := by decide +kernel
theorem ty_ok184 : ty_okM 184 = true := by decide +kernel
theorem ty_ok185 : ty_okM 185 = true := by decide +kernel
theorem ty_ok186 : ty_okM 186 = true := by decide +kernel
theorem ty_ok187 : ty_okM 187 = true := by decide +kernel
theorem ty_ok188 : ty_okM 188 = true := by decide +kernel
theorem ty_ok189 : ty_okM 189 = true := by decide +kernel
theorem ty_ok190 : ty_okM 190 = true := by decide +kernel
theorem ty_ok191 : ty_okM 191 = true := by decide +kernel
theorem ty_ok192 : ty_okM 192 = true := by decide +kernel
theorem ty_ok193 : ty_okM 193 = true := by decide +kernel
theorem ty_ok194 : ty_okM 194 = true := by decide +kernel
theorem ty_ok195 : ty_okM 195 = true := by decide +kernel
theorem ty_ok196 : ty_okM 196 = true := by decide +kernel
theorem ty_ok197 : ty_okM 197 = true := by decide +kernel
theorem ty_ok198 : ty_okM 198 = true := by decide +kernel
theorem ty_ok199 : ty_okM 199 = true := by decide +kernel
theorem ty_ok200 : ty_okM 200 = true := by decide +kernel
theorem ty_ok201 : ty_okM 201 = true := by decide +kernel
theorem ty_ok202 : ty_okM 202 = true := by decide +kernel
theorem ty_ok203 : ty_okM 203 = true := by decide +kernel
theorem ty_ok204 : ty_okM 204 = true := by decide +kernel
theorem ty_ok205 : ty_okM 205 = true := by decide +kernel
theorem ty_ok206 : ty_okM 206 = true := by decide +kernel
theorem ty_ok207 : ty_okM 207 = true := by decide +kernel
theorem ty_ok208 : ty_okM 208 = true := by decide +kernel
theorem ty_ok209 : ty_okM 209 = true := by decide +kernel
theorem ty_ok210 : ty_okM 210 = true := by decide +kernel
theorem ty_ok211 : ty_okM 211 = true := by decide +kernel
theorem ty_ok212 : ty_okM 212 = true := by decide +kernel
theorem ty_ok213 : ty_okM 213 = true := by decide +kernel
theorem ty_ok214 : ty_okM 214 = true := by decide +kernel
theorem ty_ok215 : ty_okM 215 = true := by decide +kernel
theorem ty_ok216 : ty_okM 216 = true := by decide +kernel
theorem ty_ok217 : ty_okM 217 = true := by decide +kernel
theorem ty_ok218 : ty_okM 218 = true := by decide +kernel
theorem ty_ok219 : ty_okM 219 = true := by decide +kernel
theorem ty_ok220 : ty_okM 220 = true := by decide +kernel
theorem ty_ok221 : ty_okM 221 = true := by decide +kernel
theorem ty_ok222 : ty_okM 222 = true := by decide +kernel
theorem ty_ok223 : ty_okM 223 = true := by decide +kernel
theorem ty_ok224 : ty_okM 224 = true := by decide +kernel
theorem ty_ok225 : ty_okM 225 = true := by decide +kernel
theorem ty_ok226 : ty_okM 226 = true := by decide +kernel
theorem ty_ok227 : ty_okM 227 = true := by decide +kernel
theorem ty_ok228 : ty_okM 228 = true := by decide +kernel
theorem ty_ok229 : ty_okM 229 = true := by decide +kernel
theorem ty_ok230 : ty_okM 230 = true := by decide +kernel
theorem ty_ok231 : ty_okM 231 = true := by decide +kernel
theorem ty_ok232 : ty_okM 232 = true := by decide +kernel
theorem ty_ok233 : ty_okM 233 = true := by decide +kernel
theorem ty_ok234 : ty_okM 234 = true := by decide +kernel
theorem ty_ok235 : ty_okM 235 = true := by decide +kernel
theorem ty_ok236 : ty_okM 236 = true := by decide +kernel
theorem ty_ok237 : ty_okM 237 = true := by decide +kernel
theorem ty_ok238 : ty_okM 238 = true := by decide +kernel
theorem ty_ok239 : ty_okM 239 = true := by decide +kernel
theorem ty_ok240 : ty_okM 240 = true := by decide +kernel
theorem ty_ok241 : ty_okM 241 = true := by decide +kernel
theorem ty_ok242 : ty_okM 242 = true := by decide +kernel
theorem ty_ok243 : ty_okM 243 = true := by decide +kernel
theorem ty_ok244 : ty_okM 244 = true := by decide +kernel
theorem ty_ok245 : ty_okM 245 = true := by decide +kernel
theorem ty_ok246 : ty_okM 246 = true := by decide +kernel
theorem ty_ok247 : ty_okM 247 = true := by decide +kernel
theorem ty_ok248 : ty_okM 248 = true := by decide +kernel
theorem ty_ok249 : ty_okM 249 = true := by decide +kernel
theorem ty_ok250 : ty_okM 250 = true := by decide +kernel
theorem ty_ok251 : ty_okM 251 = true := by decide +kernel
theorem ty_ok252 : ty_okM 252 = true := by decide +kernel
theorem ty_ok253 : ty_okM 253 = true := by decide +kernel
theorem ty_ok254 : ty_okM 254 = true := by decide +kernel
theorem ty_ok255 : ty_okM 255 = true := by decide +kernel
theorem ty_ok256 : ty_okM 256 = true := by decide +kernel
theorem ty_ok257 : ty_okM 257 = true := by decide +kernel
theorem ty_ok258 : ty_okM 258 = true := by decide +kernel
theorem ty_ok259 : ty_okM 259 = true := by decide +kernel
theorem ty_ok260 : ty_okM 260 = true := by decide +kernel
theorem ty_ok261 : ty_okM 261 = true := by decide +kernel
theorem ty_ok262 : ty_okM 262 = true := by decide +kernel
theorem ty_ok263 : ty_okM 263 = true := by decide +kernel
theorem ty_ok264 : ty_okM 264 = true := by decide +kernel
theorem ty_ok265 : ty_okM 265 = true := by decide +kernel
theorem ty_ok266 : ty_okM 266 = true := by decide +kernel
theorem ty_ok267 : ty_okM 267 = true := by decide +kernel
theorem ty_ok268 : ty_okM 268 = true := by decide +kernel
theorem ty_ok269 : ty_okM 269 = true := by decide +kernel
theorem ty_ok270 : ty_okM 270 = true := by decide +kernel
theorem ty_ok271 : ty_okM 271 = true := by decide +kernel
theorem ty_ok272 : ty_okM 272 = true := by decide +kernel
theorem ty_ok273 : ty_okM 273 = true := by decide +kernel
theorem ty_ok274 : ty_okM 274 = true := by decide +kernel
theorem ty_ok275 : ty_okM 275 = true := by decide +kernel
theorem ty_ok276 : ty_okM 276 = true := by decide +kernel
theorem ty_ok277 : ty_okM 277 = true := by decide +kernel
theorem ty_ok278 : ty_okM 278 = true := by decide +kernel
theorem ty_ok279 : ty_okM 279 = true := by decide +kernel
theorem ty_ok280 : ty_okM 280 = true := by decide +kernel
theorem ty_ok281 : ty_okM 281 = true := by decide +kernel
theorem ty_ok282 : ty_okM 282 = true := by decide +kernel
theorem ty_ok283 : ty_okM 283 = true := by decide +kernel
theorem ty_ok284 : ty_okM 284 = true := by decide +kernel
theorem ty_ok285 : ty_okM 285 = true := by decide +kernel
theorem ty_ok286 : ty_okM 286 = true := by decide +kernel
theorem ty_ok287 : ty_okM 287 = true := by decide +kernel
theorem ty_ok288 : ty_okM 288 = true := by decide +kernel
theorem ty_ok301 : ty_okM 301 = true := by decide +kernel
theorem ty_ok302 : ty_okM 302 = true := by decide +kernel
theorem ty_ok303 : ty_okM 303 = true := by decide +kernel
theorem ty_ok304 : ty_okM 304 = true := by decide +kernel
theorem ty_ok305 : ty_okM 305 = true := by decide +kernel
theorem ty_ok308 : ty_okM 308 = true := by decide +kernel
theorem ty_ok309 : ty_okM 309 = true := by decide +kernel
def ty_in (y : Nat) : Prop := y < 310 ∧ ¬ (289 ≤ y ∧ y ≤ 300) ∧ y ≠ 306 ∧ y ≠ 307
theorem ty_okg0 : ∀ k, k < 20 → ty_in (0 + k) → ty_okM (0 + k) = true := fun k h hi => match k, h with
  | 0, _ => ty_ok0
  | 1, _ => ty_ok1
  | 2, _ => ty_ok2
  | 3, _ => ty_ok3
  | 4, _ => ty_ok4
  | 5, _ => ty_ok5
  | 6, _ => ty_ok6
  | 7, _ => ty_ok7
  | 8, _ => ty_ok8
  | 9, _ => ty_ok9
  | 10, _ => ty_ok10
  | 11, _ => ty_ok11
  | 12, _ => ty_ok12
  | 13, _ => ty_ok13
  | 14, _ => ty_ok14
  | 15, _ => ty_ok15
  | 16, _ => ty_ok16
  | 17, _ => ty_ok17
  | 18, _ => ty_ok18
  | 19, _ => ty_ok19
  | n + 20, h => absurd h (by omega)
theorem ty_okg1 : ∀ k, k < 20 → ty_in (20 + k) → ty_okM (20 + k) = true := fun k h hi => match k, h with
  | 0, _ => ty_ok20
  | 1, _ => ty_ok21
  | 2, _ => ty_ok22
  | 3, _ => ty_ok23
  | 4, _ => ty_ok24
  | 5, _ => ty_ok25
  | 6, _ => ty_ok26
  | 7, _ => ty_ok27
  | 8, _ => ty_ok28
  | 9, _ => ty_ok29
  | 10, _ => ty_ok30
  | 11, _ => ty_ok31
  | 12, _ => ty_ok32
  | 13, _ => ty_ok33
  | 14, _ => ty_ok34
  | 15, _ => ty_ok35
  | 16, _ => ty_ok36
  | 17, _ => ty_ok37
  | 18, _ => ty_ok38
  | 19, _ => ty_ok39
  | n + 20, h => absurd h (by omega)
theorem ty_okg2 : ∀ k, k < 20 → ty_in (40 + k) → ty_okM (40 + k) = true := fun k h hi => match k, h with
  | 0, _ => ty_ok40
  | 1, _ => ty_ok41
  | 2, _ => ty_ok42
  | 3, _ => ty_ok43
  | 4, _ => ty_ok44
  | 5, _ => ty_ok45
  | 6, _ => ty_ok46
  | 7, _ => ty_ok47
  | 8, _ => ty_ok48
  | 9, _ => ty_ok49
  | 10, _ => ty_ok50
  | 11, _ => ty_ok51
  | 12, _ => ty_ok52
  | 13, _ => ty_ok53
  | 14, _ => ty_ok54
  | 15, _ => ty_ok55
  | 16, _ => ty_ok56
  | 17, _ => ty_ok57
  | 18, _ => ty_ok58
  | 19, _ => ty_ok59
  | n + 20, h => absurd h (by omega)
theorem ty_okg3 : ∀ k, k < 20 → ty_in (60 + k) → ty_okM (60 + k) = true := fun k h hi => match k, h with
  | 0, _ => ty_ok60
  | 1, _ => ty_ok61
  | 2, _ => ty_ok62
  | 3, _ => ty_ok63
  | 4, _ => ty_ok64
  | 5, _ => ty_ok65
  | 6, _ => ty_ok66
  | 7, _ => ty_ok67
  | 8, _ => ty_ok68
  | 9, _ => ty_ok69
  | 10, _ => ty_ok70
  | 11, _ => ty_ok71
  | 12, _ => ty_ok72
  | 13, _ => ty_ok73
  | 14, _ => ty_ok74
  | 15, _ => ty_ok75
  | 16, _ => ty_ok76
  | 17, _ => ty_ok77
  | 18, _ => ty_ok78
  | 19, _ => ty_ok79
  | n + 20, h => absurd h (by omega)
theorem ty_okg4 : ∀ k, k < 20 → ty_in (80 + k) → ty_okM (80 + k) = true := fun k h hi => match k, h with
  | 0, _ => ty_ok80
  | 1, _ => ty_ok81
  | 2, _ => ty_ok82
  | 3, _ => ty_ok83
  | 4, _ => ty_ok84
  | 5, _ => ty_ok85
  | 6, _ => ty_ok86
  | 7, _ => ty_ok87
  | 8, _ => ty_ok88
  | 9, _ => ty_ok89
  | 10, _ => ty_ok90
  | 11, _ => ty_ok91
  | 12, _ => ty_ok92
  | 13, _ => ty_ok93
  | 14, _ => ty_ok94
  | 15, _ => ty_ok95
  | 16, _ => ty_ok96
  | 17, _ => ty_ok97
  | 18, _ => ty_ok98
  | 19, _ => ty_ok99
  | n + 20, h => absurd h (by omega)
theorem ty_okg5 : ∀ k, k < 20 → ty_in (100 + k) → ty_okM (100 + k) = true := fun k h hi => match k, h with
  | 0, _ => ty_ok100
  | 1, _ => ty_ok101
  | 2, _ => ty_ok102
  | 3, _ => ty_ok103
  | 4, _ => ty_ok104
  | 5, _ => ty_ok105
  | 6, _ => ty_ok106
  | 7, _ => ty_ok107
  | 8, _ => ty_ok108
  | 9, _ => ty_ok109
  | 10, _ => ty_ok110
  | 11, _ => ty_ok111
  | 12, _ => ty_ok112
  | 13, _ => ty_ok113
  | 14, _ => ty_ok114
  | 15, _ => ty_ok115
  | 16, _ => ty_ok116
  | 17, _ => ty_ok117
  | 18, _ => ty_ok118
  | 19, _ => ty_ok119
  | n + 20, h => absurd h (by omega)
theorem ty_okg6 : ∀ k, k < 20 → ty_in (120 + k) → ty_okM (120 + k) = true := fun k h hi => match k, h with
  | 0, _ => ty_ok120
  | 1, _ => ty_ok121
  | 2, _ => ty_ok122
  | 3, _ => ty_ok123
  | 4, _ => ty_ok124
  | 5, _ => ty_ok125
  | 6, _ => ty_ok126
  | 7, _ => ty_ok127
  | 8, _ => ty_ok128
  | 9, _ => ty_ok129
  | 10, _ => ty_ok130
  | 11, _ => ty_ok131
  | 12, _ => ty_ok132
  | 13, _ => ty_ok133
  | 14, _ => ty_ok134
  | 15, _ => ty_ok135
  | 16, _ => ty_ok136
  | 17, _ => ty_ok137
  | 18, _ => ty_ok138
  | 19, _ => ty_ok139
  | n + 20, h => absurd h (by omega)
theorem ty_okg7 : ∀ k, k < 20 → ty_in (140 + k) → ty_okM (140 + k) = true := fun k h hi => match k, h with
  | 0, _ => ty_ok140
  | 1, _ => ty_ok141
  | 2, _ => ty_ok142
  | 3, _ => ty_ok143
  | 4, _ => ty_ok144
  | 5, _ => ty_ok145
  | 6, _ => ty_ok146
  | 7, _ => ty_ok147
  | 8, _ => ty_ok148
  | 9, _ => ty_ok149
  | 10, _ => ty_ok150
  | 11, _ => ty_ok151
  | 12, _ => ty_ok152
  | 13, _ => ty_ok153
  | 14, _ => ty_ok154
  | 15, _ => ty_ok155
  | 16, _ => ty_ok156
  | 17, _ => ty_ok157
  | 18, _ => ty_ok158
  | 19, _ => ty_ok159
  | n + 20, h => absurd h (by omega)
theorem ty_okg8 : ∀ k, k < 20 → ty_in (160 + k) → ty_okM (160 + k) = true := fun k h hi => match k, h with
  | 0, _ => ty_ok160
  | 1, _ => ty_ok161
  | 2, _ => ty_ok162
  | 3, _ => ty_ok163
  | 4, _ => ty_ok164
  | 5, _ => ty_ok165
  | 6, _ => ty_ok166
  | 7, _ => ty_ok167
  | 8, _ => ty_ok168
  | 9, _ => ty_ok169
  | 10, _ => ty_ok170
  | 11, _ => ty_ok171
  | 12, _ => ty_ok172
  | 13, _ => ty_ok173
  | 14, _ => ty_ok174
  | 15, _ => ty_ok175
  | 16, _ => ty_ok176
  | 17, _ => ty_ok177
  | 18, _ => ty_ok178
  | 19, _ => ty_ok179
  | n + 20, h => absurd h (by omega)
theorem ty_okg9 : ∀ k, k < 20 → ty_in (180 + k) → ty_okM (180 + k) = true := fun k h hi => match k, h with
  | 0, _ => ty_ok180
  | 1, _ => ty_ok181
  | 2, _ => ty_ok182
  | 3, _ => ty_ok183
  | 4, _ => ty_ok184
  | 5, _ => ty_ok185
  | 6, _ => ty_ok186
  | 7, _ => ty_ok187
  | 8, _ => ty_ok188
  | 9, _ => ty_ok189
  | 10, _ => ty_ok190
  | 11, _ => ty_ok191
  | 12, _ => ty_ok192
  | 13, _ => ty_ok193
  | 14, _ => ty_ok194
  | 15, _ => ty_ok195
  | 16, _ => ty_ok196
  | 17, _ => ty_ok197
  | 18, _ => ty_ok198
  | 19, _ => ty_ok199
  | n + 20, h => absurd h (by omega)
theorem ty_okg10 : ∀ k, k < 20 → ty_in (200 + k) → ty_okM (200 + k) = true := fun k h hi => match k, h with
  | 0, _ => ty_ok200
  | 1, _ => ty_ok201
  | 2, _ => ty_ok202
  | 3, _ => ty_ok203
  | 4, _ => ty_ok204
  | 5, _ => ty_ok205
  | 6, _ => ty_ok206
  | 7, _ => ty_ok207
  | 8, _ => ty_ok208
  | 9, _ => ty_ok209
  | 10, _ => ty_ok210
  | 11, _ => ty_ok211
  | 12, _ => ty_ok212
  | 13, _ => ty_ok213
  | 14, _ => ty_ok214
  | 15, _ => ty_ok215
  | 16, _ => ty_ok216
  | 17, _ => ty_ok217
  | 18, _ => ty_ok218
  | 19, _ => ty_ok219
  | n + 20, h => absurd h (by omega)
theorem ty_okg11 : ∀ k, k < 20 → ty_in (220 + k) → ty_okM (220 + k) = true := fun k h hi => match k, h with
  | 0, _ => ty_ok220
  | 1, _ => ty_ok221
  | 2, _ => ty_ok222
  | 3, _ => ty_ok223
  | 4, _ => ty_ok224
  | 5, _ => ty_ok225
  | 6, _ => ty_ok226
  | 7, _ => ty_ok227
  | 8, _ => ty_ok228
  | 9, _ => ty_ok229
  | 10, _ => ty_ok230
  | 11, _ => ty_ok231
  | 12, _ => ty_ok232
  | 13, _ => ty_ok233
  | 14, _ => ty_ok234
  | 15, _ => ty_ok235
  | 16, _ => ty_ok236
  | 17, _ => ty_ok237
  | 18, _ => ty_ok238
  | 19, _ => ty_ok239
  | n + 20, h => absurd h (by omega)
theorem ty_okg12 : ∀ k, k < 20 → ty_in (240 + k) → ty_okM (240 + k) = true := fun k h hi => match k, h with
  | 0, _ => ty_ok240
  | 1, _ => ty_ok241
  | 2, _ => ty_ok242
  | 3, _ => ty_ok243
  | 4, _ => ty_ok244
  | 5, _ => ty_ok245
  | 6, _ => ty_ok246
  | 7, _ => ty_ok247
  | 8, _ => ty_ok248
  | 9, _ => ty_ok249
  | 10, _ => ty_ok250
  | 11, _ => ty_ok251
  | 12, _ => ty_ok252
  | 13, _ => ty_ok253
  | 14, _ => ty_ok254
  | 15, _ => ty_ok255
  | 16, _ => ty_ok256
  | 17, _ => ty_ok257
  | 18, _ => ty_ok258
  | 19, _ => ty_ok259
  | n + 20, h => absurd h (by omega)
theorem ty_okg13 : ∀ k, k < 20 → ty_in (260 + k) → ty_okM (260 + k) = true := fun k h hi => match k, h with
  | 0, _ => ty_ok260
  | 1, _ => ty_ok261
  | 2, _ => ty_ok262
  | 3, _ => ty_ok263
  | 4, _ => ty_ok264
  | 5, _ => ty_ok265
  | 6, _ => ty_ok266
  | 7, _ => ty_ok267
  | 8, _ => ty_ok268
  | 9, _ => ty_ok269
  | 10, _ => ty_ok270
  | 11, _ => ty_ok271
  | 12, _ => ty_ok272
  | 13, _ => ty_ok273
  | 14, _ => ty_ok274
  | 15, _ => ty_ok275
  | 16, _ => ty_ok276
  | 17, _ => ty_ok277
  | 18, _ => ty_ok278
  | 19, _ => ty_ok279
  | n + 20, h => absurd h (by omega)
theorem ty_okg14 : ∀ k, k < 20 → ty_in (280 + k) → ty_okM (280 + k) = true := fun k h hi => match k, h with
  | 0, _ => ty_ok280
  | 1, _ => ty_ok281
  | 2, _ => ty_ok282
  | 3, _ => ty_ok283
  | 4, _ => ty_ok284
  | 5, _ => ty_ok285
  | 6, _ => ty_ok286
  | 7, _ => ty_ok287
  | 8, _ => ty_ok288
  | 9, _ => absurd hi (by unfold ty_in; omega)
  | 10, _ => absurd hi (by unfold ty_in; omega)
  | 11, _ => absurd hi (by unfold ty_in; omega)
  | 12, _ => absurd hi (by unfold ty_in; omega)
  | 13, _ => absurd hi (by unfold ty_in; omega)
  | 14, _ => absurd hi (by unfold ty_in; omega)
  | 15, _ => absurd hi (by unfold ty_in; omega)
  | 16, _ => absurd hi (by unfold ty_in; omega)
  | 17, _ => absurd hi (by unfold ty_in; omega)
  | 18, _ => absurd hi (by unfold ty_in; omega)
  | 19, _ => absurd hi (by unfold ty_in; omega)
  | n + 20, h => absurd h (by omega)
theorem ty_okg15 : ∀ k, k < 10 → ty_in (300 + k) → ty_okM (300 + k) = true := fun k h hi => match k, h with
  | 0, _ => absurd hi (by unfold ty_in; omega)
  | 1, _ => ty_ok301
  | 2, _ => ty_ok302
  | 3, _ => ty_ok303
  | 4, _ => ty_ok304
  | 5, _ => ty_ok305
  | 6, _ => absurd hi (by unfold ty_in; omega)
  | 7, _ => absurd hi (by unfold ty_in; omega)
  | 8, _ => ty_ok308
  | 9, _ => ty_ok309
  | n + 10, h => absurd h (by omega)
theorem ty_ok (y : Nat) (h : ty_in y) : ty_okM y = true := by
  have h0 := h.1
  by_cases h1 : y < 20
  · have e := ty_okg0 (y - 0) (by omega) (by rw [show 0 + (y - 0) = y by omega]; exact h)
    rwa [show 0 + (y - 0) = y by omega] at e
  by_cases h2 : y < 40
  · have e := ty_okg1 (y - 20) (by omega) (by rw [show 20 + (y - 20) = y by omega]; exact h)
    rwa [show 20 + (y - 20) = y by omega] at e
  by_cases h3 : y < 60
  · have e := ty_okg2 (y - 40) (by omega) (by rw [show 40 + (y - 40) = y by omega]; exact h)
    rwa [show 40 + (y - 40) = y by omega] at e
  by_cases h4 : y < 80
  · have e := ty_okg3 (y - 60) (by omega) (by rw [show 60 + (y - 60) = y by omega]; exact h)
    rwa [show 60 + (y - 60) = y by omega] at e
  by_cases h5 : y < 100
  · have e := ty_okg4 (y - 80) (by omega) (by rw [show 80 + (y - 80) = y by omega]; exact h)
    rwa [show 80 + (y - 80) = y by omega] at e
  by_cases h6 : y < 120
  · have e := ty_okg5 (y - 100) (by omega) (by rw [show 100 + (y - 100) = y by omega]; exact h)
    rwa [show 100 + (y - 100) = y by omega] at e
  by_cases h7 : y < 140
  · have e := ty_okg6 (y - 120) (by omega) (by rw [show 120 + (y - 120) = y by omega]; exact h)
    rwa [show 120 + (y - 120) = y by omega] at e
  by_cases h8 : y < 160
  · have e := ty_okg7 (y - 140) (by omega) (by rw [show 140 + (y - 140) = y by omega]; exact h)
    rwa [show 140 + (y - 140) = y by omega] at e
  by_cases h9 : y < 180
  · have e := ty_okg8 (y - 160) (by omega) (by rw [show 160 + (y - 160) = y by omega]; exact h)
    rwa [show 160 + (y - 160) = y by omega] at e
  by_cases h10 : y < 200
  · have e := ty_okg9 (y - 180) (by omega) (by rw [show 180 + (y - 180) = y by omega]; exact h)
    rwa [show 180 + (y - 180) = y by omega] at e
  by_cases h11 : y < 220
  · have e := ty_okg10 (y - 200) (by omega) (by rw [show 200 + (y - 200) = y by omega]; exact h)
    rwa [show 200 + (y - 200) = y by omega] at e
  by_cases h12 : y < 240
  · have e := ty_okg11 (y - 220) (by omega) (by rw [show 220 + (y - 220) = y by omega]; exact h)
    rwa [show 220 + (y - 220) = y by omega] at e
  by_cases h13 : y < 260
  · have e := ty_okg12 (y - 240) (by omega) (by rw [show 240 + (y - 240) = y by omega]; exact h)
    rwa [show 240 + (y - 240) = y by omega] at e
  by_cases h14 : y < 280
  · have e := ty_okg13 (y - 260) (by omega) (by rw [show 260 + (y - 260) = y by omega]; exact h)
    rwa [show 260 + (y - 260) = y by omega] at e
  by_cases h15 : y < 300
  · have e := ty_okg14 (y - 280) (by omega) (by rw [show 280 + (y - 280) = y by omega]; exact h)
    rwa [show 280 + (y - 280) = y by omega] at e
  by_cases h16 : y < 310
  · have e := ty_okg15 (y - 300) (by omega) (by rw [show 300 + (y - 300) = y by omega]; exact h)
    rwa [show 300 + (y - 300) = y by omega] at e
  omega
