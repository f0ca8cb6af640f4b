/-! the branches of the law's loop, each a function of its own -/
set_option maxRecDepth 100000
set_option linter.unusedVariables false
def lc_0 (D : gx_D) (o : Nat) (k23 : (HX × MS) → Option Nat → Option Nat → Option Nat → Int32 → Option ((Bool) × HX)) (h : (HX × MS)) (a13 : Nat) (v1 : Option Nat) (v3 : Option Nat) (v4 : Int32) : Option ((Bool) × HX) :=
  (hx_ai h.1 a13 0 (v4 + (1 : Int32))).bind fun x18 =>
  (hx_ai h.1 a13 0 (v4 + (2 : Int32))).bind fun x19 =>
  (hx_ai h.1 a13 0 (v4 + (3 : Int32))).bind fun x20 =>
  (hx_ai h.1 a13 0 (v4 + (4 : Int32))).bind fun x21 =>
  (hx_ai h.1 a13 0 (v4 + (5 : Int32))).bind fun x22 =>
  v1.bind fun a23 =>
  gx_b2 (f_X1_appendInput D h.1 a23 x18 x19 x20 x21 x22) fun x25 h26 =>
  (hx_ai h26 a13 0 (v4 + (1 : Int32))).bind fun x27 =>
  (hx_ai h26 a13 0 (v4 + (2 : Int32))).bind fun x28 =>
  (hx_ai h26 a13 0 (v4 + (3 : Int32))).bind fun x29 =>
  (hx_ai h26 a13 0 (v4 + (4 : Int32))).bind fun x30 =>
  (hx_ai h26 a13 0 (v4 + (5 : Int32))).bind fun x31 =>
  gx_b2 (f_X9_appendInput D h26 o h.2 x27 x28 x29 x30 x31) fun x33 h34 =>
  if x25 = x33 then
  f_L_law_b2499 D o k23 (h26, h34) (some a13) (some a23) v3 v4
  else
  some (false, (mh h26 o h34))
def lc_1 (D : gx_D) (o : Nat) (k23 : (HX × MS) → Option Nat → Option Nat → Option Nat → Int32 → Option ((Bool) × HX)) (h : (HX × MS)) (a13 : Nat) (v1 : Option Nat) (v3 : Option Nat) (v4 : Int32) : Option ((Bool) × HX) :=
  (hx_ai h.1 a13 0 (v4 + (1 : Int32))).bind fun x47 =>
  v1.bind fun a48 =>
  gx_b2 (f_X1_truncateInput D h.1 a48 x47) fun b50 h51 =>
  (hx_ai h51 a13 0 (v4 + (1 : Int32))).bind fun x52 =>
  gx_b2 (f_X9_truncateInput D h51 o h.2 x52) fun b54 h55 =>
  if (b2i b50) = (b2i b54) then
  f_L_law_b2499 D o k23 (h51, h55) (some a13) (some a48) v3 v4
  else
  some (false, (mh h51 o h55))
def lc_2 (D : gx_D) (o : Nat) (k23 : (HX × MS) → Option Nat → Option Nat → Option Nat → Int32 → Option ((Bool) × HX)) (h : (HX × MS)) (a13 : Nat) (v1 : Option Nat) (v3 : Option Nat) (v4 : Int32) : Option ((Bool) × HX) :=
  v1.bind fun a60 =>
  gx_b2 (f_X1_loadMachine D h.1 a60) fun x62 h63 =>
  gx_b2 (f_X9_loadMachine D h63 o h.2) fun x65 h66 =>
  if x62 = x65 then
  f_L_law_b2499 D o k23 (h63, h66) (some a13) (some a60) v3 v4
  else
  some (false, (mh h63 o h66))
def lc_3 (D : gx_D) (o : Nat) (k23 : (HX × MS) → Option Nat → Option Nat → Option Nat → Int32 → Option ((Bool) × HX)) (h : (HX × MS)) (a13 : Nat) (v1 : Option Nat) (v3 : Option Nat) (v4 : Int32) : Option ((Bool) × HX) :=
  v1.bind fun a69 =>
  gx_b2 (f_X1_runScript D h.1 a69) fun x71 h72 =>
  gx_b2 (f_X9_runScript D h72 o h.2) fun x74 h75 =>
  if x71 = x74 then
  f_L_law_b2499 D o k23 (h72, h75) (some a13) (some a69) v3 v4
  else
  some (false, (mh h72 o h75))
def lc_4 (D : gx_D) (o : Nat) (k23 : (HX × MS) → Option Nat → Option Nat → Option Nat → Int32 → Option ((Bool) × HX)) (h : (HX × MS)) (a13 : Nat) (v1 : Option Nat) (v3 : Option Nat) (v4 : Int32) : Option ((Bool) × HX) :=
  v1.bind fun a78 =>
  (f_X1_errorCode D h.1 a78).bind fun x80 =>
  gx_b2 (f_X9_errorCode D h.1 o h.2) fun x82 h83 =>
  if x80 = x82 then
  f_L_law_b2499 D o k23 (h.1, h83) (some a13) (some a78) v3 v4
  else
  some (false, (mh h.1 o h83))
def lc_5 (D : gx_D) (o : Nat) (k23 : (HX × MS) → Option Nat → Option Nat → Option Nat → Int32 → Option ((Bool) × HX)) (h : (HX × MS)) (a13 : Nat) (v1 : Option Nat) (v3 : Option Nat) (v4 : Int32) : Option ((Bool) × HX) :=
  v1.bind fun a86 =>
  (f_X1_errorOffset D h.1 a86).bind fun x88 =>
  gx_b2 (f_X9_errorOffset D h.1 o h.2) fun x90 h91 =>
  if x88 = x90 then
  f_L_law_b2499 D o k23 (h.1, h91) (some a13) (some a86) v3 v4
  else
  some (false, (mh h.1 o h91))
def lc_6 (D : gx_D) (o : Nat) (k23 : (HX × MS) → Option Nat → Option Nat → Option Nat → Int32 → Option ((Bool) × HX)) (h : (HX × MS)) (a13 : Nat) (v1 : Option Nat) (v3 : Option Nat) (v4 : Int32) : Option ((Bool) × HX) :=
  v1.bind fun a94 =>
  (f_X1_stateCount D h.1 a94).bind fun x96 =>
  gx_b2 (f_X9_stateCount D h.1 o h.2) fun x98 h99 =>
  if x96 = x98 then
  f_L_law_b2499 D o k23 (h.1, h99) (some a13) (some a94) v3 v4
  else
  some (false, (mh h.1 o h99))
def lc_7 (D : gx_D) (o : Nat) (k23 : (HX × MS) → Option Nat → Option Nat → Option Nat → Int32 → Option ((Bool) × HX)) (h : (HX × MS)) (a13 : Nat) (v1 : Option Nat) (v3 : Option Nat) (v4 : Int32) : Option ((Bool) × HX) :=
  v1.bind fun a102 =>
  (f_X1_eventCount D h.1 a102).bind fun x104 =>
  gx_b2 (f_X9_eventCount D h.1 o h.2) fun x106 h107 =>
  if x104 = x106 then
  f_L_law_b2499 D o k23 (h.1, h107) (some a13) (some a102) v3 v4
  else
  some (false, (mh h.1 o h107))
def lc_8 (D : gx_D) (o : Nat) (k23 : (HX × MS) → Option Nat → Option Nat → Option Nat → Int32 → Option ((Bool) × HX)) (h : (HX × MS)) (a13 : Nat) (v1 : Option Nat) (v3 : Option Nat) (v4 : Int32) : Option ((Bool) × HX) :=
  v1.bind fun a110 =>
  (f_X1_variableCount D h.1 a110).bind fun x112 =>
  gx_b2 (f_X9_variableCount D h.1 o h.2) fun x114 h115 =>
  if x112 = x114 then
  f_L_law_b2499 D o k23 (h.1, h115) (some a13) (some a110) v3 v4
  else
  some (false, (mh h.1 o h115))
def lc_9 (D : gx_D) (o : Nat) (k23 : (HX × MS) → Option Nat → Option Nat → Option Nat → Int32 → Option ((Bool) × HX)) (h : (HX × MS)) (a13 : Nat) (v1 : Option Nat) (v3 : Option Nat) (v4 : Int32) : Option ((Bool) × HX) :=
  v1.bind fun a118 =>
  (f_X1_transitionCount D h.1 a118).bind fun x120 =>
  gx_b2 (f_X9_transitionCount D h.1 o h.2) fun x122 h123 =>
  if x120 = x122 then
  f_L_law_b2499 D o k23 (h.1, h123) (some a13) (some a118) v3 v4
  else
  some (false, (mh h.1 o h123))
def lc_10 (D : gx_D) (o : Nat) (k23 : (HX × MS) → Option Nat → Option Nat → Option Nat → Int32 → Option ((Bool) × HX)) (h : (HX × MS)) (a13 : Nat) (v1 : Option Nat) (v3 : Option Nat) (v4 : Int32) : Option ((Bool) × HX) :=
  v1.bind fun a126 =>
  (f_X1_invariantCount D h.1 a126).bind fun x128 =>
  gx_b2 (f_X9_invariantCount D h.1 o h.2) fun x130 h131 =>
  if x128 = x130 then
  f_L_law_b2499 D o k23 (h.1, h131) (some a13) (some a126) v3 v4
  else
  some (false, (mh h.1 o h131))
def lc_11 (D : gx_D) (o : Nat) (k23 : (HX × MS) → Option Nat → Option Nat → Option Nat → Int32 → Option ((Bool) × HX)) (h : (HX × MS)) (a13 : Nat) (v1 : Option Nat) (v3 : Option Nat) (v4 : Int32) : Option ((Bool) × HX) :=
  (hx_ai h.1 a13 0 (v4 + (1 : Int32))).bind fun x134 =>
  (hx_ai h.1 a13 0 (v4 + (2 : Int32))).bind fun x135 =>
  gx_b2 (f_X0_stateNameByte D h.1 v1 x134 x135 v3) fun x137 h138 =>
  (hx_ai h138 a13 0 (v4 + (1 : Int32))).bind fun x139 =>
  (hx_ai h138 a13 0 (v4 + (2 : Int32))).bind fun x140 =>
  gx_b2 (f_X9_stateNameByte D h138 o h.2 x139 x140) fun x142 h143 =>
  (f_X9_thrown D h138 o h143).bind fun x145 =>
  if x145 = x137 then
  if x137 = 0 then
  v3.bind fun a148 =>
  (hx_al h138 a148 (0 : Int32)).bind fun x149 =>
  if (lg_cmp x149 (Int32.toInt64 x142)) = 0 then
  f_L_law_b572 D o k23 (h138, h143) (some a13) v1 (some a148) v4
  else
  some (false, (mh h138 o h143))
  else
  f_L_law_b572 D o k23 (h138, h143) (some a13) v1 v3 v4
  else
  some (false, (mh h138 o h143))
def lc_12 (D : gx_D) (o : Nat) (k23 : (HX × MS) → Option Nat → Option Nat → Option Nat → Int32 → Option ((Bool) × HX)) (h : (HX × MS)) (a13 : Nat) (v1 : Option Nat) (v3 : Option Nat) (v4 : Int32) : Option ((Bool) × HX) :=
  (hx_ai h.1 a13 0 (v4 + (1 : Int32))).bind fun x157 =>
  (hx_ai h.1 a13 0 (v4 + (2 : Int32))).bind fun x158 =>
  gx_b2 (f_X0_eventNameByte D h.1 v1 x157 x158 v3) fun x160 h161 =>
  (hx_ai h161 a13 0 (v4 + (1 : Int32))).bind fun x162 =>
  (hx_ai h161 a13 0 (v4 + (2 : Int32))).bind fun x163 =>
  gx_b2 (f_X9_eventNameByte D h161 o h.2 x162 x163) fun x165 h166 =>
  (f_X9_thrown D h161 o h166).bind fun x168 =>
  if x168 = x160 then
  if x160 = 0 then
  v3.bind fun a171 =>
  (hx_al h161 a171 (0 : Int32)).bind fun x172 =>
  if (lg_cmp x172 (Int32.toInt64 x165)) = 0 then
  f_L_law_b640 D o k23 (h161, h166) (some a13) v1 (some a171) v4
  else
  some (false, (mh h161 o h166))
  else
  f_L_law_b640 D o k23 (h161, h166) (some a13) v1 v3 v4
  else
  some (false, (mh h161 o h166))
def lc_13 (D : gx_D) (o : Nat) (k23 : (HX × MS) → Option Nat → Option Nat → Option Nat → Int32 → Option ((Bool) × HX)) (h : (HX × MS)) (a13 : Nat) (v1 : Option Nat) (v3 : Option Nat) (v4 : Int32) : Option ((Bool) × HX) :=
  (hx_ai h.1 a13 0 (v4 + (1 : Int32))).bind fun x180 =>
  (hx_ai h.1 a13 0 (v4 + (2 : Int32))).bind fun x181 =>
  gx_b2 (f_X0_variableNameByte D h.1 v1 x180 x181 v3) fun x183 h184 =>
  (hx_ai h184 a13 0 (v4 + (1 : Int32))).bind fun x185 =>
  (hx_ai h184 a13 0 (v4 + (2 : Int32))).bind fun x186 =>
  gx_b2 (f_X9_variableNameByte D h184 o h.2 x185 x186) fun x188 h189 =>
  (f_X9_thrown D h184 o h189).bind fun x191 =>
  if x191 = x183 then
  if x183 = 0 then
  v3.bind fun a194 =>
  (hx_al h184 a194 (0 : Int32)).bind fun x195 =>
  if (lg_cmp x195 (Int32.toInt64 x188)) = 0 then
  f_L_law_b708 D o k23 (h184, h189) (some a13) v1 (some a194) v4
  else
  some (false, (mh h184 o h189))
  else
  f_L_law_b708 D o k23 (h184, h189) (some a13) v1 v3 v4
  else
  some (false, (mh h184 o h189))
def lc_14 (D : gx_D) (o : Nat) (k23 : (HX × MS) → Option Nat → Option Nat → Option Nat → Int32 → Option ((Bool) × HX)) (h : (HX × MS)) (a13 : Nat) (v1 : Option Nat) (v3 : Option Nat) (v4 : Int32) : Option ((Bool) × HX) :=
  v1.bind fun a203 =>
  (f_X1_currentState D h.1 a203).bind fun x205 =>
  gx_b2 (f_X9_currentState D h.1 o h.2) fun x207 h208 =>
  if x205 = x207 then
  f_L_law_b2499 D o k23 (h.1, h208) (some a13) (some a203) v3 v4
  else
  some (false, (mh h.1 o h208))
def lc_15 (D : gx_D) (o : Nat) (k23 : (HX × MS) → Option Nat → Option Nat → Option Nat → Int32 → Option ((Bool) × HX)) (h : (HX × MS)) (a13 : Nat) (v1 : Option Nat) (v3 : Option Nat) (v4 : Int32) : Option ((Bool) × HX) :=
  (hx_ai h.1 a13 0 (v4 + (1 : Int32))).bind fun x211 =>
  gx_b2 (f_X0_valueOf D h.1 v1 x211 v3) fun x213 h214 =>
  (hx_ai h214 a13 0 (v4 + (1 : Int32))).bind fun x215 =>
  gx_b2 (f_X9_valueOf D h214 o h.2 x215) fun x217 h218 =>
  (f_X9_thrown D h214 o h218).bind fun x220 =>
  if x220 = x213 then
  if x213 = 0 then
  v3.bind fun a223 =>
  (hx_al h214 a223 (0 : Int32)).bind fun x224 =>
  if (lg_cmp x224 (Int32.toInt64 x217)) = 0 then
  f_L_law_b777 D o k23 (h214, h218) (some a13) v1 (some a223) v4
  else
  some (false, (mh h214 o h218))
  else
  f_L_law_b777 D o k23 (h214, h218) (some a13) v1 v3 v4
  else
  some (false, (mh h214 o h218))
def lc_16 (D : gx_D) (o : Nat) (k23 : (HX × MS) → Option Nat → Option Nat → Option Nat → Int32 → Option ((Bool) × HX)) (h : (HX × MS)) (a13 : Nat) (v1 : Option Nat) (v3 : Option Nat) (v4 : Int32) : Option ((Bool) × HX) :=
  (hx_ai h.1 a13 0 (v4 + (1 : Int32))).bind fun x230 =>
  gx_b2 (f_X0_initialValueOf D h.1 v1 x230 v3) fun x232 h233 =>
  (hx_ai h233 a13 0 (v4 + (1 : Int32))).bind fun x234 =>
  gx_b2 (f_X9_initialValueOf D h233 o h.2 x234) fun x236 h237 =>
  (f_X9_thrown D h233 o h237).bind fun x239 =>
  if x239 = x232 then
  if x232 = 0 then
  v3.bind fun a242 =>
  (hx_al h233 a242 (0 : Int32)).bind fun x243 =>
  if (lg_cmp x243 (Int32.toInt64 x236)) = 0 then
  f_L_law_b833 D o k23 (h233, h237) (some a13) v1 (some a242) v4
  else
  some (false, (mh h233 o h237))
  else
  f_L_law_b833 D o k23 (h233, h237) (some a13) v1 v3 v4
  else
  some (false, (mh h233 o h237))
def lc_17 (D : gx_D) (o : Nat) (k23 : (HX × MS) → Option Nat → Option Nat → Option Nat → Int32 → Option ((Bool) × HX)) (h : (HX × MS)) (a13 : Nat) (v1 : Option Nat) (v3 : Option Nat) (v4 : Int32) : Option ((Bool) × HX) :=
  (hx_ai h.1 a13 0 (v4 + (1 : Int32))).bind fun x249 =>
  gx_b2 (f_X0_sourceOf D h.1 v1 x249 v3) fun x251 h252 =>
  (hx_ai h252 a13 0 (v4 + (1 : Int32))).bind fun x253 =>
  gx_b2 (f_X9_sourceOf D h252 o h.2 x253) fun x255 h256 =>
  (f_X9_thrown D h252 o h256).bind fun x258 =>
  if x258 = x251 then
  if x251 = 0 then
  v3.bind fun a261 =>
  (hx_al h252 a261 (0 : Int32)).bind fun x262 =>
  if (lg_cmp x262 (Int32.toInt64 x255)) = 0 then
  f_L_law_b889 D o k23 (h252, h256) (some a13) v1 (some a261) v4
  else
  some (false, (mh h252 o h256))
  else
  f_L_law_b889 D o k23 (h252, h256) (some a13) v1 v3 v4
  else
  some (false, (mh h252 o h256))
def lc_18 (D : gx_D) (o : Nat) (k23 : (HX × MS) → Option Nat → Option Nat → Option Nat → Int32 → Option ((Bool) × HX)) (h : (HX × MS)) (a13 : Nat) (v1 : Option Nat) (v3 : Option Nat) (v4 : Int32) : Option ((Bool) × HX) :=
  (hx_ai h.1 a13 0 (v4 + (1 : Int32))).bind fun x268 =>
  gx_b2 (f_X0_eventOf D h.1 v1 x268 v3) fun x270 h271 =>
  (hx_ai h271 a13 0 (v4 + (1 : Int32))).bind fun x272 =>
  gx_b2 (f_X9_eventOf D h271 o h.2 x272) fun x274 h275 =>
  (f_X9_thrown D h271 o h275).bind fun x277 =>
  if x277 = x270 then
  if x270 = 0 then
  v3.bind fun a280 =>
  (hx_al h271 a280 (0 : Int32)).bind fun x281 =>
  if (lg_cmp x281 (Int32.toInt64 x274)) = 0 then
  f_L_law_b945 D o k23 (h271, h275) (some a13) v1 (some a280) v4
  else
  some (false, (mh h271 o h275))
  else
  f_L_law_b945 D o k23 (h271, h275) (some a13) v1 v3 v4
  else
  some (false, (mh h271 o h275))
def lc_19 (D : gx_D) (o : Nat) (k23 : (HX × MS) → Option Nat → Option Nat → Option Nat → Int32 → Option ((Bool) × HX)) (h : (HX × MS)) (a13 : Nat) (v1 : Option Nat) (v3 : Option Nat) (v4 : Int32) : Option ((Bool) × HX) :=
  (hx_ai h.1 a13 0 (v4 + (1 : Int32))).bind fun x287 =>
  gx_b2 (f_X0_targetOf D h.1 v1 x287 v3) fun x289 h290 =>
  (hx_ai h290 a13 0 (v4 + (1 : Int32))).bind fun x291 =>
  gx_b2 (f_X9_targetOf D h290 o h.2 x291) fun x293 h294 =>
  (f_X9_thrown D h290 o h294).bind fun x296 =>
  if x296 = x289 then
  if x289 = 0 then
  v3.bind fun a299 =>
  (hx_al h290 a299 (0 : Int32)).bind fun x300 =>
  if (lg_cmp x300 (Int32.toInt64 x293)) = 0 then
  f_L_law_b1001 D o k23 (h290, h294) (some a13) v1 (some a299) v4
  else
  some (false, (mh h290 o h294))
  else
  f_L_law_b1001 D o k23 (h290, h294) (some a13) v1 v3 v4
  else
  some (false, (mh h290 o h294))
def lc_20 (D : gx_D) (o : Nat) (k23 : (HX × MS) → Option Nat → Option Nat → Option Nat → Int32 → Option ((Bool) × HX)) (h : (HX × MS)) (a13 : Nat) (v1 : Option Nat) (v3 : Option Nat) (v4 : Int32) : Option ((Bool) × HX) :=
  (hx_ai h.1 a13 0 (v4 + (1 : Int32))).bind fun x306 =>
  gx_b2 (f_X0_hasGuard D h.1 v1 x306 v3) fun x308 h309 =>
  (hx_ai h309 a13 0 (v4 + (1 : Int32))).bind fun x310 =>
  gx_b2 (f_X9_hasGuard D h309 o h.2 x310) fun b312 h313 =>
  (f_X9_thrown D h309 o h313).bind fun x315 =>
  if x315 = x308 then
  if x308 = 0 then
  v3.bind fun a318 =>
  (hx_al h309 a318 (0 : Int32)).bind fun x319 =>
  if b312 = true then
  f_L_law_b1058 D o k23 (h309, h313) (some a13) v1 (some a318) v4 ((1 : Int64)) x319
  else
  f_L_law_b1058 D o k23 (h309, h313) (some a13) v1 (some a318) v4 ((0 : Int64)) x319
  else
  f_L_law_b1064 D o k23 (h309, h313) (some a13) v1 v3 v4
  else
  some (false, (mh h309 o h313))
def lc_21 (D : gx_D) (o : Nat) (k23 : (HX × MS) → Option Nat → Option Nat → Option Nat → Int32 → Option ((Bool) × HX)) (h : (HX × MS)) (a13 : Nat) (v1 : Option Nat) (v3 : Option Nat) (v4 : Int32) : Option ((Bool) × HX) :=
  (hx_ai h.1 a13 0 (v4 + (1 : Int32))).bind fun x326 =>
  gx_b2 (f_X0_guardHolds D h.1 v1 x326 v3) fun x328 h329 =>
  (hx_ai h329 a13 0 (v4 + (1 : Int32))).bind fun x330 =>
  gx_b2 (f_X9_guardHolds D h329 o h.2 x330) fun b332 h333 =>
  (f_X9_thrown D h329 o h333).bind fun x335 =>
  if x335 = x328 then
  if x328 = 0 then
  v3.bind fun a338 =>
  (hx_al h329 a338 (0 : Int32)).bind fun x339 =>
  if b332 = true then
  f_L_law_b1121 D o k23 (h329, h333) (some a13) v1 (some a338) v4 ((1 : Int64)) x339
  else
  f_L_law_b1121 D o k23 (h329, h333) (some a13) v1 (some a338) v4 ((0 : Int64)) x339
  else
  f_L_law_b1127 D o k23 (h329, h333) (some a13) v1 v3 v4
  else
  some (false, (mh h329 o h333))
def lc_22 (D : gx_D) (o : Nat) (k23 : (HX × MS) → Option Nat → Option Nat → Option Nat → Int32 → Option ((Bool) × HX)) (h : (HX × MS)) (a13 : Nat) (v1 : Option Nat) (v3 : Option Nat) (v4 : Int32) : Option ((Bool) × HX) :=
  (hx_ai h.1 a13 0 (v4 + (1 : Int32))).bind fun x346 =>
  gx_b2 (f_X0_stateOfInvariant D h.1 v1 x346 v3) fun x348 h349 =>
  (hx_ai h349 a13 0 (v4 + (1 : Int32))).bind fun x350 =>
  gx_b2 (f_X9_stateOfInvariant D h349 o h.2 x350) fun x352 h353 =>
  (f_X9_thrown D h349 o h353).bind fun x355 =>
  if x355 = x348 then
  if x348 = 0 then
  v3.bind fun a358 =>
  (hx_al h349 a358 (0 : Int32)).bind fun x359 =>
  if (lg_cmp x359 (Int32.toInt64 x352)) = 0 then
  f_L_law_b1183 D o k23 (h349, h353) (some a13) v1 (some a358) v4
  else
  some (false, (mh h349 o h353))
  else
  f_L_law_b1183 D o k23 (h349, h353) (some a13) v1 v3 v4
  else
  some (false, (mh h349 o h353))
def lc_23 (D : gx_D) (o : Nat) (k23 : (HX × MS) → Option Nat → Option Nat → Option Nat → Int32 → Option ((Bool) × HX)) (h : (HX × MS)) (a13 : Nat) (v1 : Option Nat) (v3 : Option Nat) (v4 : Int32) : Option ((Bool) × HX) :=
  (hx_ai h.1 a13 0 (v4 + (1 : Int32))).bind fun x365 =>
  gx_b2 (f_X0_comparisonHolds D h.1 v1 x365 v3) fun x367 h368 =>
  (hx_ai h368 a13 0 (v4 + (1 : Int32))).bind fun x369 =>
  gx_b2 (f_X9_comparisonHolds D h368 o h.2 x369) fun b371 h372 =>
  (f_X9_thrown D h368 o h372).bind fun x374 =>
  if x374 = x367 then
  if x367 = 0 then
  v3.bind fun a377 =>
  (hx_al h368 a377 (0 : Int32)).bind fun x378 =>
  if b371 = true then
  f_L_law_b1240 D o k23 (h368, h372) (some a13) v1 (some a377) v4 ((1 : Int64)) x378
  else
  f_L_law_b1240 D o k23 (h368, h372) (some a13) v1 (some a377) v4 ((0 : Int64)) x378
  else
  f_L_law_b1246 D o k23 (h368, h372) (some a13) v1 v3 v4
  else
  some (false, (mh h368 o h372))
def lc_24 (D : gx_D) (o : Nat) (k23 : (HX × MS) → Option Nat → Option Nat → Option Nat → Int32 → Option ((Bool) × HX)) (h : (HX × MS)) (a13 : Nat) (v1 : Option Nat) (v3 : Option Nat) (v4 : Int32) : Option ((Bool) × HX) :=
  (hx_ai h.1 a13 0 (v4 + (1 : Int32))).bind fun x385 =>
  gx_b2 (f_X0_verdictOf D h.1 v1 x385 v3) fun x387 h388 =>
  (hx_ai h388 a13 0 (v4 + (1 : Int32))).bind fun x389 =>
  gx_b2 (f_X9_verdictOf D h388 o h.2 x389) fun x391 h392 =>
  (f_X9_thrown D h388 o h392).bind fun x394 =>
  if x394 = x387 then
  if x387 = 0 then
  v3.bind fun a397 =>
  (hx_al h388 a397 (0 : Int32)).bind fun x398 =>
  if (lg_cmp x398 (Int32.toInt64 x391)) = 0 then
  f_L_law_b1302 D o k23 (h388, h392) (some a13) v1 (some a397) v4
  else
  some (false, (mh h388 o h392))
  else
  f_L_law_b1302 D o k23 (h388, h392) (some a13) v1 v3 v4
  else
  some (false, (mh h388 o h392))
def lc_25 (D : gx_D) (o : Nat) (k23 : (HX × MS) → Option Nat → Option Nat → Option Nat → Int32 → Option ((Bool) × HX)) (h : (HX × MS)) (a13 : Nat) (v1 : Option Nat) (v3 : Option Nat) (v4 : Int32) : Option ((Bool) × HX) :=
  (hx_ai h.1 a13 0 (v4 + (1 : Int32))).bind fun x404 =>
  gx_b2 (f_X0_chosenTransition D h.1 v1 x404 v3) fun x406 h407 =>
  (hx_ai h407 a13 0 (v4 + (1 : Int32))).bind fun x408 =>
  gx_b2 (f_X9_chosenTransition D h407 o h.2 x408) fun x410 h411 =>
  (f_X9_thrown D h407 o h411).bind fun x413 =>
  if x413 = x406 then
  if x406 = 0 then
  v3.bind fun a416 =>
  (hx_al h407 a416 (0 : Int32)).bind fun x417 =>
  if (lg_cmp x417 (Int32.toInt64 x410)) = 0 then
  f_L_law_b1358 D o k23 (h407, h411) (some a13) v1 (some a416) v4
  else
  some (false, (mh h407 o h411))
  else
  f_L_law_b1358 D o k23 (h407, h411) (some a13) v1 v3 v4
  else
  some (false, (mh h407 o h411))
def lc_26 (D : gx_D) (o : Nat) (k23 : (HX × MS) → Option Nat → Option Nat → Option Nat → Int32 → Option ((Bool) × HX)) (h : (HX × MS)) (a13 : Nat) (v1 : Option Nat) (v3 : Option Nat) (v4 : Int32) : Option ((Bool) × HX) :=
  (hx_ai h.1 a13 0 (v4 + (1 : Int32))).bind fun x423 =>
  gx_b2 (f_X0_brokenInvariant D h.1 v1 x423 v3) fun x425 h426 =>
  (hx_ai h426 a13 0 (v4 + (1 : Int32))).bind fun x427 =>
  gx_b2 (f_X9_brokenInvariant D h426 o h.2 x427) fun x429 h430 =>
  (f_X9_thrown D h426 o h430).bind fun x432 =>
  if x432 = x425 then
  if x425 = 0 then
  v3.bind fun a435 =>
  (hx_al h426 a435 (0 : Int32)).bind fun x436 =>
  if (lg_cmp x436 (Int32.toInt64 x429)) = 0 then
  f_L_law_b1414 D o k23 (h426, h430) (some a13) v1 (some a435) v4
  else
  some (false, (mh h426 o h430))
  else
  f_L_law_b1414 D o k23 (h426, h430) (some a13) v1 v3 v4
  else
  some (false, (mh h426 o h430))
def lc_27 (D : gx_D) (o : Nat) (k23 : (HX × MS) → Option Nat → Option Nat → Option Nat → Int32 → Option ((Bool) × HX)) (h : (HX × MS)) (a13 : Nat) (v1 : Option Nat) (v3 : Option Nat) (v4 : Int32) : Option ((Bool) × HX) :=
  v1.bind fun a442 =>
  (f_X1_isDeadlocked D h.1 a442).bind fun b444 =>
  gx_b2 (f_X9_isDeadlocked D h.1 o h.2) fun b446 h447 =>
  if (b2i b444) = (b2i b446) then
  f_L_law_b2499 D o k23 (h.1, h447) (some a13) (some a442) v3 v4
  else
  some (false, (mh h.1 o h447))
def lc_28 (D : gx_D) (o : Nat) (k23 : (HX × MS) → Option Nat → Option Nat → Option Nat → Int32 → Option ((Bool) × HX)) (h : (HX × MS)) (a13 : Nat) (v1 : Option Nat) (v3 : Option Nat) (v4 : Int32) : Option ((Bool) × HX) :=
  (hx_ai h.1 a13 0 (v4 + (1 : Int32))).bind fun x450 =>
  gx_b2 (f_X0_timesTaken D h.1 v1 x450 v3) fun x452 h453 =>
  (hx_ai h453 a13 0 (v4 + (1 : Int32))).bind fun x454 =>
  gx_b2 (f_X9_timesTaken D h453 o h.2 x454) fun x456 h457 =>
  (f_X9_thrown D h453 o h457).bind fun x459 =>
  if x459 = x452 then
  if x452 = 0 then
  v3.bind fun a462 =>
  (hx_al h453 a462 (0 : Int32)).bind fun x463 =>
  if (lg_cmp x463 (Int32.toInt64 x456)) = 0 then
  f_L_law_b1483 D o k23 (h453, h457) (some a13) v1 (some a462) v4
  else
  some (false, (mh h453 o h457))
  else
  f_L_law_b1483 D o k23 (h453, h457) (some a13) v1 v3 v4
  else
  some (false, (mh h453 o h457))
def lc_29 (D : gx_D) (o : Nat) (k23 : (HX × MS) → Option Nat → Option Nat → Option Nat → Int32 → Option ((Bool) × HX)) (h : (HX × MS)) (a13 : Nat) (v1 : Option Nat) (v3 : Option Nat) (v4 : Int32) : Option ((Bool) × HX) :=
  (hx_ai h.1 a13 0 (v4 + (1 : Int32))).bind fun x469 =>
  gx_b2 (f_X0_visitsOf D h.1 v1 x469 v3) fun x471 h472 =>
  (hx_ai h472 a13 0 (v4 + (1 : Int32))).bind fun x473 =>
  gx_b2 (f_X9_visitsOf D h472 o h.2 x473) fun x475 h476 =>
  (f_X9_thrown D h472 o h476).bind fun x478 =>
  if x478 = x471 then
  if x471 = 0 then
  v3.bind fun a481 =>
  (hx_al h472 a481 (0 : Int32)).bind fun x482 =>
  if (lg_cmp x482 (Int32.toInt64 x475)) = 0 then
  f_L_law_b1539 D o k23 (h472, h476) (some a13) v1 (some a481) v4
  else
  some (false, (mh h472 o h476))
  else
  f_L_law_b1539 D o k23 (h472, h476) (some a13) v1 v3 v4
  else
  some (false, (mh h472 o h476))
def lc_30 (D : gx_D) (o : Nat) (k23 : (HX × MS) → Option Nat → Option Nat → Option Nat → Int32 → Option ((Bool) × HX)) (h : (HX × MS)) (a13 : Nat) (v1 : Option Nat) (v3 : Option Nat) (v4 : Int32) : Option ((Bool) × HX) :=
  v1.bind fun a488 =>
  (f_X1_acceptedCount D h.1 a488).bind fun x490 =>
  gx_b2 (f_X9_acceptedCount D h.1 o h.2) fun x492 h493 =>
  if x490 = x492 then
  f_L_law_b2499 D o k23 (h.1, h493) (some a13) (some a488) v3 v4
  else
  some (false, (mh h.1 o h493))
def lc_31 (D : gx_D) (o : Nat) (k23 : (HX × MS) → Option Nat → Option Nat → Option Nat → Int32 → Option ((Bool) × HX)) (h : (HX × MS)) (a13 : Nat) (v1 : Option Nat) (v3 : Option Nat) (v4 : Int32) : Option ((Bool) × HX) :=
  v1.bind fun a496 =>
  (f_X1_rejectedCount D h.1 a496).bind fun x498 =>
  gx_b2 (f_X9_rejectedCount D h.1 o h.2) fun x500 h501 =>
  if x498 = x500 then
  f_L_law_b2499 D o k23 (h.1, h501) (some a13) (some a496) v3 v4
  else
  some (false, (mh h.1 o h501))
def lc_32 (D : gx_D) (o : Nat) (k23 : (HX × MS) → Option Nat → Option Nat → Option Nat → Int32 → Option ((Bool) × HX)) (h : (HX × MS)) (a13 : Nat) (v1 : Option Nat) (v3 : Option Nat) (v4 : Int32) : Option ((Bool) × HX) :=
  (hx_ai h.1 a13 0 (v4 + (1 : Int32))).bind fun x504 =>
  gx_b2 (f_X0_rejectedWith D h.1 v1 x504 v3) fun x506 h507 =>
  (hx_ai h507 a13 0 (v4 + (1 : Int32))).bind fun x508 =>
  gx_b2 (f_X9_rejectedWith D h507 o h.2 x508) fun x510 h511 =>
  (f_X9_thrown D h507 o h511).bind fun x513 =>
  if x513 = x506 then
  if x506 = 0 then
  v3.bind fun a516 =>
  (hx_al h507 a516 (0 : Int32)).bind fun x517 =>
  if (lg_cmp x517 (Int32.toInt64 x510)) = 0 then
  f_L_law_b1621 D o k23 (h507, h511) (some a13) v1 (some a516) v4
  else
  some (false, (mh h507 o h511))
  else
  f_L_law_b1621 D o k23 (h507, h511) (some a13) v1 v3 v4
  else
  some (false, (mh h507 o h511))
def lc_33 (D : gx_D) (o : Nat) (k23 : (HX × MS) → Option Nat → Option Nat → Option Nat → Int32 → Option ((Bool) × HX)) (h : (HX × MS)) (a13 : Nat) (v1 : Option Nat) (v3 : Option Nat) (v4 : Int32) : Option ((Bool) × HX) :=
  v1.bind fun a523 =>
  (f_X1_stateCoverage D h.1 a523).bind fun x525 =>
  if (FP.f2d x525) &&& 0x7fffffffffffffff ≤ 0x7ff0000000000000 then
  gx_b2 (f_X9_stateCoverage D h.1 o h.2) fun x528 h529 =>
  if (FP.f2d x528) &&& 0x7fffffffffffffff ≤ 0x7ff0000000000000 then
  if (Op.cmpValue (FP.dcmp (FP.f2d x525) (FP.f2d x528)) .l) = 0 then
  f_L_law_b1664 D o k23 (h.1, h529) (some a13) (some a523) v3 v4
  else
  if (Op.cmpValue (FP.dcmp (FP.f2d x525) (FP.f2d x525)) .l) = 0 then
  some (false, (mh h.1 o h529))
  else
  if (Op.cmpValue (FP.dcmp (FP.f2d x528) (FP.f2d x528)) .l) = 0 then
  some (false, (mh h.1 o h529))
  else
  f_L_law_b1664 D o k23 (h.1, h529) (some a13) (some a523) v3 v4
  else none
  else none
def lc_34 (D : gx_D) (o : Nat) (k23 : (HX × MS) → Option Nat → Option Nat → Option Nat → Int32 → Option ((Bool) × HX)) (h : (HX × MS)) (a13 : Nat) (v1 : Option Nat) (v3 : Option Nat) (v4 : Int32) : Option ((Bool) × HX) :=
  v1.bind fun a535 =>
  (f_X1_transitionCoverage D h.1 a535).bind fun x537 =>
  if (FP.f2d x537) &&& 0x7fffffffffffffff ≤ 0x7ff0000000000000 then
  gx_b2 (f_X9_transitionCoverage D h.1 o h.2) fun x540 h541 =>
  if (FP.f2d x540) &&& 0x7fffffffffffffff ≤ 0x7ff0000000000000 then
  if (Op.cmpValue (FP.dcmp (FP.f2d x537) (FP.f2d x540)) .l) = 0 then
  f_L_law_b1707 D o k23 (h.1, h541) (some a13) (some a535) v3 v4
  else
  if (Op.cmpValue (FP.dcmp (FP.f2d x537) (FP.f2d x537)) .l) = 0 then
  some (false, (mh h.1 o h541))
  else
  if (Op.cmpValue (FP.dcmp (FP.f2d x540) (FP.f2d x540)) .l) = 0 then
  some (false, (mh h.1 o h541))
  else
  f_L_law_b1707 D o k23 (h.1, h541) (some a13) (some a535) v3 v4
  else none
  else none
def lc_35 (D : gx_D) (o : Nat) (k23 : (HX × MS) → Option Nat → Option Nat → Option Nat → Int32 → Option ((Bool) × HX)) (h : (HX × MS)) (a13 : Nat) (v1 : Option Nat) (v3 : Option Nat) (v4 : Int32) : Option ((Bool) × HX) :=
  v1.bind fun a547 =>
  (f_X1_firstUncovered D h.1 a547).bind fun x549 =>
  gx_b2 (f_X9_firstUncovered D h.1 o h.2) fun x551 h552 =>
  if x549 = x551 then
  f_L_law_b2499 D o k23 (h.1, h552) (some a13) (some a547) v3 v4
  else
  some (false, (mh h.1 o h552))
def lc_36 (D : gx_D) (o : Nat) (k23 : (HX × MS) → Option Nat → Option Nat → Option Nat → Int32 → Option ((Bool) × HX)) (h : (HX × MS)) (a13 : Nat) (v1 : Option Nat) (v3 : Option Nat) (v4 : Int32) : Option ((Bool) × HX) :=
  v1.bind fun a555 =>
  (f_X1_mostVisitedState D h.1 a555).bind fun x557 =>
  gx_b2 (f_X9_mostVisitedState D h.1 o h.2) fun x559 h560 =>
  if x557 = x559 then
  f_L_law_b2499 D o k23 (h.1, h560) (some a13) (some a555) v3 v4
  else
  some (false, (mh h.1 o h560))
def lc_37 (D : gx_D) (o : Nat) (k23 : (HX × MS) → Option Nat → Option Nat → Option Nat → Int32 → Option ((Bool) × HX)) (h : (HX × MS)) (a13 : Nat) (v1 : Option Nat) (v3 : Option Nat) (v4 : Int32) : Option ((Bool) × HX) :=
  v1.bind fun a563 =>
  (f_X1_traceLength D h.1 a563).bind fun x565 =>
  gx_b2 (f_X9_traceLength D h.1 o h.2) fun x567 h568 =>
  if x565 = x567 then
  f_L_law_b2499 D o k23 (h.1, h568) (some a13) (some a563) v3 v4
  else
  some (false, (mh h.1 o h568))
def lc_38 (D : gx_D) (o : Nat) (k23 : (HX × MS) → Option Nat → Option Nat → Option Nat → Int32 → Option ((Bool) × HX)) (h : (HX × MS)) (a13 : Nat) (v1 : Option Nat) (v3 : Option Nat) (v4 : Int32) : Option ((Bool) × HX) :=
  (hx_ai h.1 a13 0 (v4 + (1 : Int32))).bind fun x571 =>
  v1.bind fun a572 =>
  (f_X1_traceEvent D h.1 a572 x571).bind fun x574 =>
  (hx_ai h.1 a13 0 (v4 + (1 : Int32))).bind fun x575 =>
  gx_b2 (f_X9_traceEvent D h.1 o h.2 x575) fun x577 h578 =>
  if x574 = x577 then
  f_L_law_b2499 D o k23 (h.1, h578) (some a13) (some a572) v3 v4
  else
  some (false, (mh h.1 o h578))
def lc_39 (D : gx_D) (o : Nat) (k23 : (HX × MS) → Option Nat → Option Nat → Option Nat → Int32 → Option ((Bool) × HX)) (h : (HX × MS)) (a13 : Nat) (v1 : Option Nat) (v3 : Option Nat) (v4 : Int32) : Option ((Bool) × HX) :=
  (hx_ai h.1 a13 0 (v4 + (1 : Int32))).bind fun x583 =>
  v1.bind fun a584 =>
  (f_X1_traceTransition D h.1 a584 x583).bind fun x586 =>
  (hx_ai h.1 a13 0 (v4 + (1 : Int32))).bind fun x587 =>
  gx_b2 (f_X9_traceTransition D h.1 o h.2 x587) fun x589 h590 =>
  if x586 = x589 then
  f_L_law_b2499 D o k23 (h.1, h590) (some a13) (some a584) v3 v4
  else
  some (false, (mh h.1 o h590))
def lc_40 (D : gx_D) (o : Nat) (k23 : (HX × MS) → Option Nat → Option Nat → Option Nat → Int32 → Option ((Bool) × HX)) (h : (HX × MS)) (a13 : Nat) (v1 : Option Nat) (v3 : Option Nat) (v4 : Int32) : Option ((Bool) × HX) :=
  v1.bind fun a595 =>
  gx_b2 (f_X1_reachableCount D h.1 a595) fun x597 h598 =>
  gx_b2 (f_X9_reachableCount D h598 o h.2) fun x600 h601 =>
  if x597 = x600 then
  f_L_law_b2499 D o k23 (h598, h601) (some a13) (some a595) v3 v4
  else
  some (false, (mh h598 o h601))
def lc_41 (D : gx_D) (o : Nat) (k23 : (HX × MS) → Option Nat → Option Nat → Option Nat → Int32 → Option ((Bool) × HX)) (h : (HX × MS)) (a13 : Nat) (v1 : Option Nat) (v3 : Option Nat) (v4 : Int32) : Option ((Bool) × HX) :=
  (hx_ai h.1 a13 0 (v4 + (1 : Int32))).bind fun x604 =>
  gx_b2 (f_X0_isReachable D h.1 v1 x604 v3) fun x606 h607 =>
  (hx_ai h607 a13 0 (v4 + (1 : Int32))).bind fun x608 =>
  gx_b2 (f_X9_isReachable D h607 o h.2 x608) fun b610 h611 =>
  (f_X9_thrown D h607 o h611).bind fun x613 =>
  if x613 = x606 then
  if x606 = 0 then
  v3.bind fun a616 =>
  (hx_al h607 a616 (0 : Int32)).bind fun x617 =>
  if b610 = true then
  f_L_law_b1866 D o k23 (h607, h611) (some a13) v1 (some a616) v4 ((1 : Int64)) x617
  else
  f_L_law_b1866 D o k23 (h607, h611) (some a13) v1 (some a616) v4 ((0 : Int64)) x617
  else
  f_L_law_b1872 D o k23 (h607, h611) (some a13) v1 v3 v4
  else
  some (false, (mh h607 o h611))
def lc_42 (D : gx_D) (o : Nat) (k23 : (HX × MS) → Option Nat → Option Nat → Option Nat → Int32 → Option ((Bool) × HX)) (h : (HX × MS)) (a13 : Nat) (v1 : Option Nat) (v3 : Option Nat) (v4 : Int32) : Option ((Bool) × HX) :=
  (hx_ai h.1 a13 0 (v4 + (1 : Int32))).bind fun x624 =>
  gx_b2 (f_X0_canBeTaken D h.1 v1 x624 v3) fun x626 h627 =>
  (hx_ai h627 a13 0 (v4 + (1 : Int32))).bind fun x628 =>
  gx_b2 (f_X9_canBeTaken D h627 o h.2 x628) fun b630 h631 =>
  (f_X9_thrown D h627 o h631).bind fun x633 =>
  if x633 = x626 then
  if x626 = 0 then
  v3.bind fun a636 =>
  (hx_al h627 a636 (0 : Int32)).bind fun x637 =>
  if b630 = true then
  f_L_law_b1929 D o k23 (h627, h631) (some a13) v1 (some a636) v4 ((1 : Int64)) x637
  else
  f_L_law_b1929 D o k23 (h627, h631) (some a13) v1 (some a636) v4 ((0 : Int64)) x637
  else
  f_L_law_b1935 D o k23 (h627, h631) (some a13) v1 v3 v4
  else
  some (false, (mh h627 o h631))
def lc_43 (D : gx_D) (o : Nat) (k23 : (HX × MS) → Option Nat → Option Nat → Option Nat → Int32 → Option ((Bool) × HX)) (h : (HX × MS)) (a13 : Nat) (v1 : Option Nat) (v3 : Option Nat) (v4 : Int32) : Option ((Bool) × HX) :=
  (hx_ai h.1 a13 0 (v4 + (1 : Int32))).bind fun x644 =>
  gx_b2 (f_X0_stepsTo D h.1 v1 x644 v3) fun x646 h647 =>
  (hx_ai h647 a13 0 (v4 + (1 : Int32))).bind fun x648 =>
  gx_b2 (f_X9_stepsTo D h647 o h.2 x648) fun x650 h651 =>
  (f_X9_thrown D h647 o h651).bind fun x653 =>
  if x653 = x646 then
  if x646 = 0 then
  v3.bind fun a656 =>
  (hx_al h647 a656 (0 : Int32)).bind fun x657 =>
  if (lg_cmp x657 (Int32.toInt64 x650)) = 0 then
  f_L_law_b1991 D o k23 (h647, h651) (some a13) v1 (some a656) v4
  else
  some (false, (mh h647 o h651))
  else
  f_L_law_b1991 D o k23 (h647, h651) (some a13) v1 v3 v4
  else
  some (false, (mh h647 o h651))
def lc_44 (D : gx_D) (o : Nat) (k23 : (HX × MS) → Option Nat → Option Nat → Option Nat → Int32 → Option ((Bool) × HX)) (h : (HX × MS)) (a13 : Nat) (v1 : Option Nat) (v3 : Option Nat) (v4 : Int32) : Option ((Bool) × HX) :=
  (hx_ai h.1 a13 0 (v4 + (1 : Int32))).bind fun x663 =>
  gx_b2 (f_X0_firstEventTo D h.1 v1 x663 v3) fun x665 h666 =>
  (hx_ai h666 a13 0 (v4 + (1 : Int32))).bind fun x667 =>
  gx_b2 (f_X9_firstEventTo D h666 o h.2 x667) fun x669 h670 =>
  (f_X9_thrown D h666 o h670).bind fun x672 =>
  if x672 = x665 then
  if x665 = 0 then
  v3.bind fun a675 =>
  (hx_al h666 a675 (0 : Int32)).bind fun x676 =>
  if (lg_cmp x676 (Int32.toInt64 x669)) = 0 then
  f_L_law_b2047 D o k23 (h666, h670) (some a13) v1 (some a675) v4
  else
  some (false, (mh h666 o h670))
  else
  f_L_law_b2047 D o k23 (h666, h670) (some a13) v1 v3 v4
  else
  some (false, (mh h666 o h670))
def lc_45 (D : gx_D) (o : Nat) (k23 : (HX × MS) → Option Nat → Option Nat → Option Nat → Int32 → Option ((Bool) × HX)) (h : (HX × MS)) (a13 : Nat) (v1 : Option Nat) (v3 : Option Nat) (v4 : Int32) : Option ((Bool) × HX) :=
  v1.bind fun a682 =>
  gx_b2 (f_X1_deadlockCount D h.1 a682) fun x684 h685 =>
  gx_b2 (f_X9_deadlockCount D h685 o h.2) fun x687 h688 =>
  if x684 = x687 then
  f_L_law_b2499 D o k23 (h685, h688) (some a13) (some a682) v3 v4
  else
  some (false, (mh h685 o h688))
def lc_46 (D : gx_D) (o : Nat) (k23 : (HX × MS) → Option Nat → Option Nat → Option Nat → Int32 → Option ((Bool) × HX)) (h : (HX × MS)) (a13 : Nat) (v1 : Option Nat) (v3 : Option Nat) (v4 : Int32) : Option ((Bool) × HX) :=
  v1.bind fun a691 =>
  gx_b2 (f_X1_stepsToDeadlock D h.1 a691) fun x693 h694 =>
  gx_b2 (f_X9_stepsToDeadlock D h694 o h.2) fun x696 h697 =>
  if x693 = x696 then
  f_L_law_b2499 D o k23 (h694, h697) (some a13) (some a691) v3 v4
  else
  some (false, (mh h694 o h697))
def lc_47 (D : gx_D) (o : Nat) (k23 : (HX × MS) → Option Nat → Option Nat → Option Nat → Int32 → Option ((Bool) × HX)) (h : (HX × MS)) (a13 : Nat) (v1 : Option Nat) (v3 : Option Nat) (v4 : Int32) : Option ((Bool) × HX) :=
  v1.bind fun a700 =>
  gx_b2 (f_X1_isConsistent D h.1 a700) fun b702 h703 =>
  gx_b2 (f_X9_isConsistent D h703 o h.2) fun b705 h706 =>
  if (b2i b702) = (b2i b705) then
  f_L_law_b2499 D o k23 (h703, h706) (some a13) (some a700) v3 v4
  else
  some (false, (mh h703 o h706))
def lc_48 (D : gx_D) (o : Nat) (k23 : (HX × MS) → Option Nat → Option Nat → Option Nat → Int32 → Option ((Bool) × HX)) (h : (HX × MS)) (a13 : Nat) (v1 : Option Nat) (v3 : Option Nat) (v4 : Int32) : Option ((Bool) × HX) :=
  v1.bind fun a709 =>
  (f_X1_meanValue D h.1 a709).bind fun x711 =>
  gx_b2 (f_X9_meanValue D h.1 o h.2) fun x713 h714 =>
  if (Op.cmpValue (FP.dcmp x711 x713) .l) = 0 then
  f_L_law_b2127 D o k23 (h.1, h714) (some a13) (some a709) v3 v4
  else
  if (Op.cmpValue (FP.dcmp x711 x711) .l) = 0 then
  some (false, (mh h.1 o h714))
  else
  if (Op.cmpValue (FP.dcmp x713 x713) .l) = 0 then
  some (false, (mh h.1 o h714))
  else
  f_L_law_b2127 D o k23 (h.1, h714) (some a13) (some a709) v3 v4
def lc_49 (D : gx_D) (o : Nat) (k23 : (HX × MS) → Option Nat → Option Nat → Option Nat → Int32 → Option ((Bool) × HX)) (h : (HX × MS)) (a13 : Nat) (v1 : Option Nat) (v3 : Option Nat) (v4 : Int32) : Option ((Bool) × HX) :=
  (hx_ai h.1 a13 0 (v4 + (1 : Int32))).bind fun x719 =>
  gx_b2 (f_X0_fire D h.1 v1 x719 v3) fun x721 h722 =>
  (hx_ai h722 a13 0 (v4 + (1 : Int32))).bind fun x723 =>
  gx_b2 (f_X9_fire D h722 o h.2 x723) fun x725 h726 =>
  (f_X9_thrown D h722 o h726).bind fun x728 =>
  if x728 = x721 then
  if x721 = 0 then
  v3.bind fun a731 =>
  (hx_al h722 a731 (0 : Int32)).bind fun x732 =>
  if (lg_cmp x732 (Int32.toInt64 x725)) = 0 then
  f_L_law_b2183 D o k23 (h722, h726) (some a13) v1 (some a731) v4
  else
  some (false, (mh h722 o h726))
  else
  f_L_law_b2183 D o k23 (h722, h726) (some a13) v1 v3 v4
  else
  some (false, (mh h722 o h726))
def lc_50 (D : gx_D) (o : Nat) (k23 : (HX × MS) → Option Nat → Option Nat → Option Nat → Int32 → Option ((Bool) × HX)) (h : (HX × MS)) (a13 : Nat) (v1 : Option Nat) (v3 : Option Nat) (v4 : Int32) : Option ((Bool) × HX) :=
  (hx_ai h.1 a13 0 (v4 + (1 : Int32))).bind fun x738 =>
  (hx_ai h.1 a13 0 (v4 + (2 : Int32))).bind fun x739 =>
  gx_b2 (f_X0_setValue D h.1 v1 x738 x739 v3) fun x741 h742 =>
  (hx_ai h742 a13 0 (v4 + (1 : Int32))).bind fun x743 =>
  (hx_ai h742 a13 0 (v4 + (2 : Int32))).bind fun x744 =>
  gx_b2 (f_X9_setValue D h742 o h.2 x743 x744) fun x746 h747 =>
  (f_X9_thrown D h742 o h747).bind fun x749 =>
  if x749 = x741 then
  if x741 = 0 then
  v3.bind fun a752 =>
  (hx_al h742 a752 (0 : Int32)).bind fun x753 =>
  if (lg_cmp x753 (Int32.toInt64 x746)) = 0 then
  f_L_law_b2251 D o k23 (h742, h747) (some a13) v1 (some a752) v4
  else
  some (false, (mh h742 o h747))
  else
  f_L_law_b2251 D o k23 (h742, h747) (some a13) v1 v3 v4
  else
  some (false, (mh h742 o h747))
def lc_51 (D : gx_D) (o : Nat) (k23 : (HX × MS) → Option Nat → Option Nat → Option Nat → Int32 → Option ((Bool) × HX)) (h : (HX × MS)) (a13 : Nat) (v1 : Option Nat) (v3 : Option Nat) (v4 : Int32) : Option ((Bool) × HX) :=
  v1.bind fun a761 =>
  gx_b2 (f_X1_reset D h.1 a761) fun x763 h764 =>
  gx_b2 (f_X9_reset D h764 o h.2) fun x766 h767 =>
  if x763 = x766 then
  f_L_law_b2499 D o k23 (h764, h767) (some a13) (some a761) v3 v4
  else
  some (false, (mh h764 o h767))
def lc_52 (D : gx_D) (o : Nat) (k23 : (HX × MS) → Option Nat → Option Nat → Option Nat → Int32 → Option ((Bool) × HX)) (h : (HX × MS)) (a13 : Nat) (v1 : Option Nat) (v3 : Option Nat) (v4 : Int32) : Option ((Bool) × HX) :=
  v1.bind fun a770 =>
  gx_b2 (f_X1_clearCoverage D h.1 a770) fun x772 h773 =>
  gx_b2 (f_X9_clearCoverage D h773 o h.2) fun x775 h776 =>
  if x772 = x775 then
  f_L_law_b2499 D o k23 (h773, h776) (some a13) (some a770) v3 v4
  else
  some (false, (mh h773 o h776))
def lc_53 (D : gx_D) (o : Nat) (k23 : (HX × MS) → Option Nat → Option Nat → Option Nat → Int32 → Option ((Bool) × HX)) (h : (HX × MS)) (a13 : Nat) (v1 : Option Nat) (v3 : Option Nat) (v4 : Int32) : Option ((Bool) × HX) :=
  (hx_ai h.1 a13 0 (v4 + (1 : Int32))).bind fun x779 =>
  (hx_ai h.1 a13 0 (v4 + (2 : Int32))).bind fun x780 =>
  (hx_ai h.1 a13 0 (v4 + (3 : Int32))).bind fun x781 =>
  gx_b2 (f_X0_addAlways D h.1 v1 x779 x780 x781 v3) fun x783 h784 =>
  (hx_ai h784 a13 0 (v4 + (1 : Int32))).bind fun x785 =>
  (hx_ai h784 a13 0 (v4 + (2 : Int32))).bind fun x786 =>
  (hx_ai h784 a13 0 (v4 + (3 : Int32))).bind fun x787 =>
  gx_b2 (f_X9_addAlways D h784 o h.2 x785 x786 x787) fun x789 h790 =>
  (f_X9_thrown D h784 o h790).bind fun x792 =>
  if x792 = x783 then
  if x783 = 0 then
  v3.bind fun a795 =>
  (hx_al h784 a795 (0 : Int32)).bind fun x796 =>
  if (lg_cmp x796 (Int32.toInt64 x789)) = 0 then
  f_L_law_b2357 D o k23 (h784, h790) (some a13) v1 (some a795) v4
  else
  some (false, (mh h784 o h790))
  else
  f_L_law_b2357 D o k23 (h784, h790) (some a13) v1 v3 v4
  else
  some (false, (mh h784 o h790))
def lc_54 (D : gx_D) (o : Nat) (k23 : (HX × MS) → Option Nat → Option Nat → Option Nat → Int32 → Option ((Bool) × HX)) (h : (HX × MS)) (a13 : Nat) (v1 : Option Nat) (v3 : Option Nat) (v4 : Int32) : Option ((Bool) × HX) :=
  gx_b2 (f_X0_undo D h.1 v1 v3) fun x807 h808 =>
  gx_b2 (f_X9_undo D h808 o h.2) fun x810 h811 =>
  (f_X9_thrown D h808 o h811).bind fun x813 =>
  if x813 = x807 then
  if x807 = 0 then
  v3.bind fun a816 =>
  (hx_al h808 a816 (0 : Int32)).bind fun x817 =>
  if (lg_cmp x817 (Int32.toInt64 x810)) = 0 then
  f_L_law_b2401 D o k23 (h808, h811) (some a13) v1 (some a816) v4
  else
  some (false, (mh h808 o h811))
  else
  f_L_law_b2401 D o k23 (h808, h811) (some a13) v1 v3 v4
  else
  some (false, (mh h808 o h811))
def lc_55 (D : gx_D) (o : Nat) (k23 : (HX × MS) → Option Nat → Option Nat → Option Nat → Int32 → Option ((Bool) × HX)) (h : (HX × MS)) (a13 : Nat) (v1 : Option Nat) (v3 : Option Nat) (v4 : Int32) : Option ((Bool) × HX) :=
  v1.bind fun a821 =>
  gx_b2 (f_X1_writeConfiguration D h.1 a821) fun x823 h824 =>
  gx_b2 (f_X9_writeConfiguration D h824 o h.2) fun x826 h827 =>
  if x823 = x826 then
  f_L_law_b2499 D o k23 (h824, h827) (some a13) (some a821) v3 v4
  else
  some (false, (mh h824 o h827))
def lc_56 (D : gx_D) (o : Nat) (k23 : (HX × MS) → Option Nat → Option Nat → Option Nat → Int32 → Option ((Bool) × HX)) (h : (HX × MS)) (a13 : Nat) (v1 : Option Nat) (v3 : Option Nat) (v4 : Int32) : Option ((Bool) × HX) :=
  (hx_ai h.1 a13 0 (v4 + (1 : Int32))).bind fun x830 =>
  v1.bind fun a831 =>
  (f_X1_outputByte D h.1 a831 x830).bind fun x833 =>
  (hx_ai h.1 a13 0 (v4 + (1 : Int32))).bind fun x834 =>
  gx_b2 (f_X9_outputByte D h.1 o h.2 x834) fun x836 h837 =>
  if x833 = x836 then
  f_L_law_b2499 D o k23 (h.1, h837) (some a13) (some a831) v3 v4
  else
  some (false, (mh h.1 o h837))
def lc_57 (D : gx_D) (o : Nat) (k23 : (HX × MS) → Option Nat → Option Nat → Option Nat → Int32 → Option ((Bool) × HX)) (h : (HX × MS)) (a13 : Nat) (v1 : Option Nat) (v3 : Option Nat) (v4 : Int32) : Option ((Bool) × HX) :=
  v1.bind fun a842 =>
  gx_b2 (f_X1_saveState D h.1 a842) fun x844 h845 =>
  gx_b2 (f_X9_saveState D h845 o h.2) fun x847 h848 =>
  if x844 = x847 then
  f_L_law_b2499 D o k23 (h845, h848) (some a13) (some a842) v3 v4
  else
  some (false, (mh h845 o h848))
def lc_58 (D : gx_D) (o : Nat) (k23 : (HX × MS) → Option Nat → Option Nat → Option Nat → Int32 → Option ((Bool) × HX)) (h : (HX × MS)) (a13 : Nat) (v1 : Option Nat) (v3 : Option Nat) (v4 : Int32) : Option ((Bool) × HX) :=
  gx_b2 (f_X0_restoreState D h.1 v1 v3) fun x852 h853 =>
  gx_b2 (f_X9_restoreState D h853 o h.2) fun x855 h856 =>
  (f_X9_thrown D h853 o h856).bind fun x858 =>
  if x858 = x852 then
  if x852 = 0 then
  v3.bind fun a861 =>
  (hx_al h853 a861 (0 : Int32)).bind fun x862 =>
  if (lg_cmp x862 (Int32.toInt64 x855)) = 0 then
  f_L_law_b2496 D o k23 (h853, h856) (some a13) v1 (some a861) v4
  else
  some (false, (mh h853 o h856))
  else
  f_L_law_b2496 D o k23 (h853, h856) (some a13) v1 v3 v4
  else
  some (false, (mh h853 o h856))
def lc_sw (D : gx_D) (o : Nat) (k23 : (HX × MS) → Option Nat → Option Nat → Option Nat → Int32 → Option ((Bool) × HX)) (h : (HX × MS)) (a13 : Nat) (v1 : Option Nat) (v3 : Option Nat) (v4 : Int32) (y : Int32) : Option ((Bool) × HX) :=
  if y = (0 : Int32) then
  lc_0 D o k23 h a13 v1 v3 v4
  else
  if y = (1 : Int32) then
  lc_1 D o k23 h a13 v1 v3 v4
  else
  if y = (2 : Int32) then
  lc_2 D o k23 h a13 v1 v3 v4
  else
  if y = (3 : Int32) then
  lc_3 D o k23 h a13 v1 v3 v4
  else
  if y = (4 : Int32) then
  lc_4 D o k23 h a13 v1 v3 v4
  else
  if y = (5 : Int32) then
  lc_5 D o k23 h a13 v1 v3 v4
  else
  if y = (6 : Int32) then
  lc_6 D o k23 h a13 v1 v3 v4
  else
  if y = (7 : Int32) then
  lc_7 D o k23 h a13 v1 v3 v4
  else
  if y = (8 : Int32) then
  lc_8 D o k23 h a13 v1 v3 v4
  else
  if y = (9 : Int32) then
  lc_9 D o k23 h a13 v1 v3 v4
  else
  if y = (10 : Int32) then
  lc_10 D o k23 h a13 v1 v3 v4
  else
  if y = (11 : Int32) then
  lc_11 D o k23 h a13 v1 v3 v4
  else
  if y = (12 : Int32) then
  lc_12 D o k23 h a13 v1 v3 v4
  else
  if y = (13 : Int32) then
  lc_13 D o k23 h a13 v1 v3 v4
  else
  if y = (14 : Int32) then
  lc_14 D o k23 h a13 v1 v3 v4
  else
  if y = (15 : Int32) then
  lc_15 D o k23 h a13 v1 v3 v4
  else
  if y = (16 : Int32) then
  lc_16 D o k23 h a13 v1 v3 v4
  else
  if y = (17 : Int32) then
  lc_17 D o k23 h a13 v1 v3 v4
  else
  if y = (18 : Int32) then
  lc_18 D o k23 h a13 v1 v3 v4
  else
  if y = (19 : Int32) then
  lc_19 D o k23 h a13 v1 v3 v4
  else
  if y = (20 : Int32) then
  lc_20 D o k23 h a13 v1 v3 v4
  else
  if y = (21 : Int32) then
  lc_21 D o k23 h a13 v1 v3 v4
  else
  if y = (22 : Int32) then
  lc_22 D o k23 h a13 v1 v3 v4
  else
  if y = (23 : Int32) then
  lc_23 D o k23 h a13 v1 v3 v4
  else
  if y = (24 : Int32) then
  lc_24 D o k23 h a13 v1 v3 v4
  else
  if y = (25 : Int32) then
  lc_25 D o k23 h a13 v1 v3 v4
  else
  if y = (26 : Int32) then
  lc_26 D o k23 h a13 v1 v3 v4
  else
  if y = (27 : Int32) then
  lc_27 D o k23 h a13 v1 v3 v4
  else
  if y = (28 : Int32) then
  lc_28 D o k23 h a13 v1 v3 v4
  else
  if y = (29 : Int32) then
  lc_29 D o k23 h a13 v1 v3 v4
  else
  if y = (30 : Int32) then
  lc_30 D o k23 h a13 v1 v3 v4
  else
  if y = (31 : Int32) then
  lc_31 D o k23 h a13 v1 v3 v4
  else
  if y = (32 : Int32) then
  lc_32 D o k23 h a13 v1 v3 v4
  else
  if y = (33 : Int32) then
  lc_33 D o k23 h a13 v1 v3 v4
  else
  if y = (34 : Int32) then
  lc_34 D o k23 h a13 v1 v3 v4
  else
  if y = (35 : Int32) then
  lc_35 D o k23 h a13 v1 v3 v4
  else
  if y = (36 : Int32) then
  lc_36 D o k23 h a13 v1 v3 v4
  else
  if y = (37 : Int32) then
  lc_37 D o k23 h a13 v1 v3 v4
  else
  if y = (38 : Int32) then
  lc_38 D o k23 h a13 v1 v3 v4
  else
  if y = (39 : Int32) then
  lc_39 D o k23 h a13 v1 v3 v4
  else
  if y = (40 : Int32) then
  lc_40 D o k23 h a13 v1 v3 v4
  else
  if y = (41 : Int32) then
  lc_41 D o k23 h a13 v1 v3 v4
  else
  if y = (42 : Int32) then
  lc_42 D o k23 h a13 v1 v3 v4
  else
  if y = (43 : Int32) then
  lc_43 D o k23 h a13 v1 v3 v4
  else
  if y = (44 : Int32) then
  lc_44 D o k23 h a13 v1 v3 v4
  else
  if y = (45 : Int32) then
  lc_45 D o k23 h a13 v1 v3 v4
  else
  if y = (46 : Int32) then
  lc_46 D o k23 h a13 v1 v3 v4
  else
  if y = (47 : Int32) then
  lc_47 D o k23 h a13 v1 v3 v4
  else
  if y = (48 : Int32) then
  lc_48 D o k23 h a13 v1 v3 v4
  else
  if y = (49 : Int32) then
  lc_49 D o k23 h a13 v1 v3 v4
  else
  if y = (50 : Int32) then
  lc_50 D o k23 h a13 v1 v3 v4
  else
  if y = (51 : Int32) then
  lc_51 D o k23 h a13 v1 v3 v4
  else
  if y = (52 : Int32) then
  lc_52 D o k23 h a13 v1 v3 v4
  else
  if y = (53 : Int32) then
  lc_53 D o k23 h a13 v1 v3 v4
  else
  if y = (54 : Int32) then
  lc_54 D o k23 h a13 v1 v3 v4
  else
  if y = (55 : Int32) then
  lc_55 D o k23 h a13 v1 v3 v4
  else
  if y = (56 : Int32) then
  lc_56 D o k23 h a13 v1 v3 v4
  else
  if y = (57 : Int32) then
  lc_57 D o k23 h a13 v1 v3 v4
  else
  if y = (58 : Int32) then
  lc_58 D o k23 h a13 v1 v3 v4
  else
  if y < (0 : Int32) ∨ (58 : Int32) < y then
  f_L_law_b2499 D o k23 (h.1, h.2) (some a13) v1 v3 v4
  else none
theorem lc_it {D : gx_D} {o : Nat} {k23 : (HX × MS) → Option Nat → Option Nat → Option Nat → Int32 → Option ((Bool) × HX)} {h : (HX × MS)} {a13 : Nat} {v1 v3 : Option Nat} {v4 x14 x16 : Int32} (e1 : hx_len h.1 a13 = some x14) (e2 : ¬ (x14 - (6 : Int32)) < v4) (e3 : hx_ai h.1 a13 0 v4 = some x16) : f_L_law_it D o k23 h (some a13) v1 v3 v4 = lc_sw D o k23 h a13 v1 v3 v4 (x16 &&& (63 : Int32)) := by
  unfold f_L_law_it
  show (hx_len h.1 a13).bind _ = _
  rw [e1, Option.bind_some, if_neg e2, e3, Option.bind_some]
  rfl
theorem lc_end {D : gx_D} {o : Nat} {k23 : (HX × MS) → Option Nat → Option Nat → Option Nat → Int32 → Option ((Bool) × HX)} {h : (HX × MS)} {a13 : Nat} {v1 v3 : Option Nat} {v4 x14 : Int32} (e1 : hx_len h.1 a13 = some x14) (e2 : (x14 - (6 : Int32)) < v4) : f_L_law_it D o k23 h (some a13) v1 v3 v4 = some (true, (mh h.1 o h.2)) := by
  unfold f_L_law_it
  show (hx_len h.1 a13).bind _ = _
  rw [e1, Option.bind_some, if_pos e2]
theorem lc_rest {y : Int32} (h0 : y ≠ (0 : Int32)) (h1 : y ≠ (1 : Int32)) (h2 : y ≠ (2 : Int32)) (h3 : y ≠ (3 : Int32)) (h4 : y ≠ (4 : Int32)) (h5 : y ≠ (5 : Int32)) (h6 : y ≠ (6 : Int32)) (h7 : y ≠ (7 : Int32)) (h8 : y ≠ (8 : Int32)) (h9 : y ≠ (9 : Int32)) (h10 : y ≠ (10 : Int32)) (h11 : y ≠ (11 : Int32)) (h12 : y ≠ (12 : Int32)) (h13 : y ≠ (13 : Int32)) (h14 : y ≠ (14 : Int32)) (h15 : y ≠ (15 : Int32)) (h16 : y ≠ (16 : Int32)) (h17 : y ≠ (17 : Int32)) (h18 : y ≠ (18 : Int32)) (h19 : y ≠ (19 : Int32)) (h20 : y ≠ (20 : Int32)) (h21 : y ≠ (21 : Int32)) (h22 : y ≠ (22 : Int32)) (h23 : y ≠ (23 : Int32)) (h24 : y ≠ (24 : Int32)) (h25 : y ≠ (25 : Int32)) (h26 : y ≠ (26 : Int32)) (h27 : y ≠ (27 : Int32)) (h28 : y ≠ (28 : Int32)) (h29 : y ≠ (29 : Int32)) (h30 : y ≠ (30 : Int32)) (h31 : y ≠ (31 : Int32)) (h32 : y ≠ (32 : Int32)) (h33 : y ≠ (33 : Int32)) (h34 : y ≠ (34 : Int32)) (h35 : y ≠ (35 : Int32)) (h36 : y ≠ (36 : Int32)) (h37 : y ≠ (37 : Int32)) (h38 : y ≠ (38 : Int32)) (h39 : y ≠ (39 : Int32)) (h40 : y ≠ (40 : Int32)) (h41 : y ≠ (41 : Int32)) (h42 : y ≠ (42 : Int32)) (h43 : y ≠ (43 : Int32)) (h44 : y ≠ (44 : Int32)) (h45 : y ≠ (45 : Int32)) (h46 : y ≠ (46 : Int32)) (h47 : y ≠ (47 : Int32)) (h48 : y ≠ (48 : Int32)) (h49 : y ≠ (49 : Int32)) (h50 : y ≠ (50 : Int32)) (h51 : y ≠ (51 : Int32)) (h52 : y ≠ (52 : Int32)) (h53 : y ≠ (53 : Int32)) (h54 : y ≠ (54 : Int32)) (h55 : y ≠ (55 : Int32)) (h56 : y ≠ (56 : Int32)) (h57 : y ≠ (57 : Int32)) (h58 : y ≠ (58 : Int32)) : y < (0 : Int32) ∨ (58 : Int32) < y := by
  have g0 : y.toInt ≠ 0 := fun e => h0 (Int32.toInt_inj.1 e)
  have g1 : y.toInt ≠ 1 := fun e => h1 (Int32.toInt_inj.1 e)
  have g2 : y.toInt ≠ 2 := fun e => h2 (Int32.toInt_inj.1 e)
  have g3 : y.toInt ≠ 3 := fun e => h3 (Int32.toInt_inj.1 e)
  have g4 : y.toInt ≠ 4 := fun e => h4 (Int32.toInt_inj.1 e)
  have g5 : y.toInt ≠ 5 := fun e => h5 (Int32.toInt_inj.1 e)
  have g6 : y.toInt ≠ 6 := fun e => h6 (Int32.toInt_inj.1 e)
  have g7 : y.toInt ≠ 7 := fun e => h7 (Int32.toInt_inj.1 e)
  have g8 : y.toInt ≠ 8 := fun e => h8 (Int32.toInt_inj.1 e)
  have g9 : y.toInt ≠ 9 := fun e => h9 (Int32.toInt_inj.1 e)
  have g10 : y.toInt ≠ 10 := fun e => h10 (Int32.toInt_inj.1 e)
  have g11 : y.toInt ≠ 11 := fun e => h11 (Int32.toInt_inj.1 e)
  have g12 : y.toInt ≠ 12 := fun e => h12 (Int32.toInt_inj.1 e)
  have g13 : y.toInt ≠ 13 := fun e => h13 (Int32.toInt_inj.1 e)
  have g14 : y.toInt ≠ 14 := fun e => h14 (Int32.toInt_inj.1 e)
  have g15 : y.toInt ≠ 15 := fun e => h15 (Int32.toInt_inj.1 e)
  have g16 : y.toInt ≠ 16 := fun e => h16 (Int32.toInt_inj.1 e)
  have g17 : y.toInt ≠ 17 := fun e => h17 (Int32.toInt_inj.1 e)
  have g18 : y.toInt ≠ 18 := fun e => h18 (Int32.toInt_inj.1 e)
  have g19 : y.toInt ≠ 19 := fun e => h19 (Int32.toInt_inj.1 e)
  have g20 : y.toInt ≠ 20 := fun e => h20 (Int32.toInt_inj.1 e)
  have g21 : y.toInt ≠ 21 := fun e => h21 (Int32.toInt_inj.1 e)
  have g22 : y.toInt ≠ 22 := fun e => h22 (Int32.toInt_inj.1 e)
  have g23 : y.toInt ≠ 23 := fun e => h23 (Int32.toInt_inj.1 e)
  have g24 : y.toInt ≠ 24 := fun e => h24 (Int32.toInt_inj.1 e)
  have g25 : y.toInt ≠ 25 := fun e => h25 (Int32.toInt_inj.1 e)
  have g26 : y.toInt ≠ 26 := fun e => h26 (Int32.toInt_inj.1 e)
  have g27 : y.toInt ≠ 27 := fun e => h27 (Int32.toInt_inj.1 e)
  have g28 : y.toInt ≠ 28 := fun e => h28 (Int32.toInt_inj.1 e)
  have g29 : y.toInt ≠ 29 := fun e => h29 (Int32.toInt_inj.1 e)
  have g30 : y.toInt ≠ 30 := fun e => h30 (Int32.toInt_inj.1 e)
  have g31 : y.toInt ≠ 31 := fun e => h31 (Int32.toInt_inj.1 e)
  have g32 : y.toInt ≠ 32 := fun e => h32 (Int32.toInt_inj.1 e)
  have g33 : y.toInt ≠ 33 := fun e => h33 (Int32.toInt_inj.1 e)
  have g34 : y.toInt ≠ 34 := fun e => h34 (Int32.toInt_inj.1 e)
  have g35 : y.toInt ≠ 35 := fun e => h35 (Int32.toInt_inj.1 e)
  have g36 : y.toInt ≠ 36 := fun e => h36 (Int32.toInt_inj.1 e)
  have g37 : y.toInt ≠ 37 := fun e => h37 (Int32.toInt_inj.1 e)
  have g38 : y.toInt ≠ 38 := fun e => h38 (Int32.toInt_inj.1 e)
  have g39 : y.toInt ≠ 39 := fun e => h39 (Int32.toInt_inj.1 e)
  have g40 : y.toInt ≠ 40 := fun e => h40 (Int32.toInt_inj.1 e)
  have g41 : y.toInt ≠ 41 := fun e => h41 (Int32.toInt_inj.1 e)
  have g42 : y.toInt ≠ 42 := fun e => h42 (Int32.toInt_inj.1 e)
  have g43 : y.toInt ≠ 43 := fun e => h43 (Int32.toInt_inj.1 e)
  have g44 : y.toInt ≠ 44 := fun e => h44 (Int32.toInt_inj.1 e)
  have g45 : y.toInt ≠ 45 := fun e => h45 (Int32.toInt_inj.1 e)
  have g46 : y.toInt ≠ 46 := fun e => h46 (Int32.toInt_inj.1 e)
  have g47 : y.toInt ≠ 47 := fun e => h47 (Int32.toInt_inj.1 e)
  have g48 : y.toInt ≠ 48 := fun e => h48 (Int32.toInt_inj.1 e)
  have g49 : y.toInt ≠ 49 := fun e => h49 (Int32.toInt_inj.1 e)
  have g50 : y.toInt ≠ 50 := fun e => h50 (Int32.toInt_inj.1 e)
  have g51 : y.toInt ≠ 51 := fun e => h51 (Int32.toInt_inj.1 e)
  have g52 : y.toInt ≠ 52 := fun e => h52 (Int32.toInt_inj.1 e)
  have g53 : y.toInt ≠ 53 := fun e => h53 (Int32.toInt_inj.1 e)
  have g54 : y.toInt ≠ 54 := fun e => h54 (Int32.toInt_inj.1 e)
  have g55 : y.toInt ≠ 55 := fun e => h55 (Int32.toInt_inj.1 e)
  have g56 : y.toInt ≠ 56 := fun e => h56 (Int32.toInt_inj.1 e)
  have g57 : y.toInt ≠ 57 := fun e => h57 (Int32.toInt_inj.1 e)
  have g58 : y.toInt ≠ 58 := fun e => h58 (Int32.toInt_inj.1 e)
  rw [Int32.lt_iff_toInt_lt, Int32.lt_iff_toInt_lt]
  show y.toInt < 0 ∨ 58 < y.toInt
  omega
/-- what a branch does: on to the loop's head -/
def goL (D : gx_D) (o p0 L : Nat) (xs : Nat → Int32) (Y : YT) (N i : Nat) (h : HX) (c : Option ((Bool) × HX)) (k : (HX × MS) → Option Nat → Option Nat → Option Nat → Int32 → Option ((Bool) × HX)) : Prop := ∃ h' s' A', c = k (h', s') (some p0) (some Y.1) (some Y.2.2.2.2.2.2.2.2) (nI i + 6) ∧ LI D o p0 L xs Y (N + 31) h' s' A' ∧ bnd h h' 16300 195600
